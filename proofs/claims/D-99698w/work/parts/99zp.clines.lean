/-! ===== office: the component reads lines: what holds, a sheet's line ===== -/
section CLINES
variable {K q : Nat → Nat} {rd n m0 : Nat} {T : Nat → Nat} {hb f0 f h h' : CH} {r r' : CR} {B : Nat → Nat} {g : Nat → Nat → Int32} {S : OS} {b nm D : Nat}
def LG (K q : Nat → Nat) (rd n : Nat) (T : Nat → Nat) (hb : CH) (m0 : Nat) (f0 : CH) : Prop := (KX K ∧ K 0 ≠ K 1 ∧ ∀ i, i < 500 → K i < m0) ∧ (TapeC hb (q 13) T ∧ FR hb m0 ∧ KN K hb ∧ hle f0 hb) ∧ (n ≤ 700 ∧ ∀ k, T k < 256) ∧ ∀ j, j < 256 → f0 (K (200 + j)) = some (.inr (12, [.int (i3 j - 128)]))
def FYr (K : Nat → Nat) (cv : (Nat → Int32) → (Nat → Int32)) (f : CH) (ly : Option Nat) (Y : Option EX) : Prop := match Y with
  | none => ly = none
  | some E => ∃ a lo hi, ly = some a ∧ FoR K 100 cv f lo hi a E
theorem FYr_mono {cv : (Nat → Int32) → (Nat → Int32)} {f f' : CH} {ly : Option Nat} {Y : Option EX} (hF : FYr K cv f ly Y) (hl : hle f f') : FYr K cv f' ly Y := by
  unfold FYr at hF ⊢
  split at hF
  · exact hF
  · obtain ⟨a, lo, hi, h1, h2⟩ := hF
    exact ⟨a, lo, hi, h1, FoR_le h2 (fun p x _ _ e => hl p x e)⟩
/-- a new office is being made: B tells where: 0 reader, 1 office, 2 service, 3..6 its arrays, 7 words, 8 rounds, 9 and 10 their arrays; f is at rest -/
def LC (K q : Nat → Nat) (rd n : Nat) (T : Nat → Nat) (hb : CH) (m0 : Nat) (f0 f h : CH) (r : CR) (B : Nat → Nat) (g : Nat → Nat → Int32) (nm D : Nat) (S : OS) (b : Nat) : Prop := ∃ (ly mo : Option Nat) (fw fr : Nat → Nat),
  (RDc q rd nm n T (i3 D) h b ∧ (nm = q 4 ∨ nm = q 5)) ∧
  (h (B 1) = some (.inr (2, [.ref (B 7), .ref (B 8), .int (i3 (pN S.1)), .int (i3 (pS S.1)), va_rf ly, va_rf mo])) ∧ SC h (q 13) (B 2) (fun i => B (3 + i)) g 0 ∧ SA S.1 g 0 S.2.1) ∧
  (LMu K h (B 7) (B 9) (pQ' S.1) fw ∧ ∀ i, i < pQ' S.1 → ∃ x, f (fw i) = some (.inl (0, 2, .inl x)) ∧ x 0 = i3 (pA S.1 i) ∧ x 1 = i3 (pB S.1 i)) ∧
  (LMu K h (B 8) (B 10) (pM S.1) fr ∧ ∀ c, c < pM S.1 → ∃ fi, LRd f (fr c) (pL S.1 c) fi ∧ ∀ i, i < pL S.1 c → f (fi i) = some (.inr (12, [.int (i3 (pR S.1 c i))]))) ∧
  (FYr K cvL f ly (pY S.1) ∧ FYr K cvM f mo (pZ S.1)) ∧
  (FR h r.1 ∧ hle f h ∧ m0 ≤ r.1 ∧ (∀ p, p < m0 → h p = hb p) ∧ (∀ p, p < m0 → f p = f0 p) ∧ TXA K f (q 3) [0, 1, 2] ∧ TXA K f (q 4) [3, 4, 5, 6, 7] ∧ TXA K f (q 5) [8, 9, 10, 3, 11, 7]) ∧
  (B 0 = rd ∧ B 1 = q 1 ∧ B 2 = q 2 ∧ (∀ i j, i < 9 → j < 9 → B i = B j → i = j) ∧ (∀ i, i < 9 → m0 ≤ B i) ∧ (∀ i j, 9 ≤ i → i < 11 → j < 9 → B i ≠ B j) ∧ (∀ i, i < 11 → f (B i) = none) ∧ (B 9 = B 10 → B 9 = K 0) ∧ ∀ i, 9 ≤ i → i < 11 → m0 ≤ B i ∨ B i = K 0)
theorem TXA_hle {f f' : CH} {a : Nat} {L : List Nat} (hT : TXA K f a L) (hl : hle f f') : TXA K f' a L := by
  obtain ⟨g, g1, g2⟩ := hT
  exact ⟨g, hl _ _ g1, g2⟩
/-- every role holds a cell -/
theorem LC_some (hC : LC K q rd n T hb m0 f0 f h r B g nm D S b) : ∀ i, i < 9 → ∃ c, h (B i) = some c := by
  obtain ⟨ly, mo, fw, fr, ⟨⟨-, v, c1, -⟩, -⟩, ⟨c2, ⟨s1, s2, s3, s4, s5⟩, -⟩, ⟨⟨mc, c3, -⟩, -⟩, ⟨⟨mc2, c4, -⟩, -⟩, -, -, ⟨b0, -⟩⟩ := hC
  intro i hi
  have : i = 0 ∨ i = 1 ∨ i = 2 ∨ i = 3 ∨ i = 4 ∨ i = 5 ∨ i = 6 ∨ i = 7 ∨ i = 8 := by omega
  rcases this with rfl | rfl | rfl | rfl | rfl | rfl | rfl | rfl | rfl
  · exact ⟨_, by rw [b0]; exact c1⟩
  · exact ⟨_, c2⟩
  · exact ⟨_, s1⟩
  · exact ⟨_, s2⟩
  · exact ⟨_, s3⟩
  · exact ⟨_, s4⟩
  · exact ⟨_, s5⟩
  · exact ⟨_, c3⟩
  · exact ⟨_, c4⟩
theorem LC_KN (hG : LG K q rd n T hb m0 f0) (he : ∀ p, p < m0 → h p = hb p) : KN K h := by
  obtain ⟨⟨-, -, hb1⟩, ⟨-, -, ⟨k1, k2, k3⟩, -⟩, -⟩ := hG
  exact ⟨by rw [he _ (hb1 0 (by decide))]; exact k1, by rw [he _ (hb1 1 (by decide))]; exact k2, fun i hi => by rw [he _ (hb1 (30 + i) (by omega))]; exact k3 i hi⟩
/-- what else may change: the token, and what is new -/
theorem LC_fr {b' : Nat} (hC : LC K q rd n T hb m0 f0 f h r B g nm D S b) (he0 : ∀ p, p < r.1 → p ≠ rd → h' p = h p) {nm' D' : Nat} (hR : RDc q rd nm' n T (i3 D') h' b') (hnm : nm' = q 4 ∨ nm' = q 5) (hf : FR h' r'.1) (hr : r.1 ≤ r'.1) : LC K q rd n T hb m0 f0 f h' r' B g nm' D' S b' := by
  have hsm := LC_some hC
  obtain ⟨ly, mo, fw, fr, ⟨c1, c1n⟩, ⟨c2, c2s, c2a⟩, ⟨c3, c3w⟩, ⟨c4, c4r⟩, ⟨c5, c6⟩, ⟨d1, d2, d3, d4, d5, d6, d7, d8⟩, ⟨b0, b1, b2, b3, b4, b5, b6, b7⟩⟩ := hC
  have he : ∀ p x, h p = some x → p ≠ rd → h' p = some x := fun p x hx hp => by rw [he0 p (FR_lt d1 hx) hp]; exact hx
  have hne : ∀ i, i < 11 → 0 < i → B i ≠ rd := fun i hi h0 x => by
    by_cases hi9 : i < 9
    · rw [← b0] at x
      have := b3 i 0 hi9 (by decide) x
      omega
    · exact b5 i 0 (by omega) hi (by decide) (by rw [b0]; exact x)
  have hB : ∀ i x, i < 11 → 0 < i → h (B i) = some x → h' (B i) = some x := fun i x hi h0 hx => he _ _ hx (hne i hi h0)
  have hLM : ∀ i j m e, i < 11 → 0 < i → j < 11 → 0 < j → LMu K h (B i) (B j) m e → LMu K h' (B i) (B j) m e := fun i j m e hi h0 hj h1 hL => by
    obtain ⟨mc, l1, l2⟩ := hL
    refine ⟨mc, hB i _ hi h0 l1, ?_⟩
    rcases l2 with l2 | ⟨cap, ga, l3, l4⟩
    · exact .inl l2
    · exact .inr ⟨cap, ga, hB j _ hj h1 l3, l4⟩
  refine ⟨ly, mo, fw, fr, ⟨hR, hnm⟩, ⟨hB 1 _ (by decide) (by decide) c2, ?_, c2a⟩, ⟨hLM 7 9 _ _ (by decide) (by decide) (by decide) (by decide) c3, c3w⟩, ⟨hLM 8 10 _ _ (by decide) (by decide) (by decide) (by decide) c4, c4r⟩, ⟨c5, c6⟩, ⟨hf, fun p x hx => he p x (d2 p x hx) (fun y => ?_), by omega, fun p hp => ?_, d5, d6, d7, d8⟩, ⟨b0, b1, b2, b3, b4, b5, b6, b7⟩⟩
  · obtain ⟨s1, s2, s3, s4, s5⟩ := c2s
    exact ⟨hB 2 _ (by decide) (by decide) s1, hB 3 _ (by decide) (by decide) s2, hB 4 _ (by decide) (by decide) s3, hB 5 _ (by decide) (by decide) s4, hB 6 _ (by decide) (by decide) s5⟩
  · have := b6 0 (by decide)
    rw [b0, ← y, hx] at this
    cases this
  · rw [he0 p (by omega) (fun y => by
      have := b4 0 (by decide)
      rw [b0] at this
      omega)]
    exact d4 p hp
/-- the texts that an expression may ask for -/
def nmL (q : Nat → Nat) (nm : Nat) : List Nat := if nm = q 4 then [3, 4, 5, 6, 7] else [8, 9, 10, 3, 11, 7]
/-- what the token alone changes -/
theorem LC_to (hG : LG K q rd n T hb m0 f0) (hC : LC K q rd n T hb m0 f0 f h r B g nm D S b) : H0c K q rd nm n T (nmL q nm) h r.1 ∧ CT q rd nm n T (i3 D) h r.1 h r b ∧ ∀ h1 b', CT q rd nm n T (i3 D) h r.1 h1 r b' → LC K q rd n T hb m0 f0 f h1 r B g nm D S b' ∧ ∀ p, p ≠ rd → h1 p = h p := by
  have hC' := hC
  obtain ⟨ly, mo, fw, fr, ⟨c1, c1n⟩, -, -, -, -, ⟨d1, d2, d3, d4, d5, d6, d7, d8⟩, -⟩ := hC
  have hTX : TXA K h nm (nmL q nm) := by
    unfold nmL
    by_cases e : nm = q 4
    · rw [if_pos e, e]; exact TXA_hle d7 d2
    · rw [if_neg e, c1n.resolve_left e]; exact TXA_hle d8 d2
  have hKb : ∀ i, i < 500 → K i < r.1 := fun i hi => by have := hG.1.2.2 i hi; omega
  have htp : TapeC h (q 13) T := by
    obtain ⟨fo, tp, g1, t1, t2, t3, t4⟩ := hG.2.1.1
    exact ⟨fo, tp, g1, by rw [d4 _ (FR_lt hG.2.1.2.1 t1)]; exact t1, t2, by rw [d4 _ (FR_lt hG.2.1.2.1 t3)]; exact t3, t4⟩
  have hrs : ∃ fs, h rd = some (.inr (4, fs)) := by
    obtain ⟨-, v, e, -⟩ := c1
    exact ⟨_, e⟩
  refine ⟨⟨⟨hG.1.1, hG.1.2.1, hKb⟩, ⟨htp, d1, hTX, hrs, LC_KN hG d4⟩, hG.2.2.1⟩, ⟨fun _ _ _ => rfl, c1, d1, Nat.le_refl _⟩, fun h1 b' hC1 => ?_⟩
  obtain ⟨e1, e2, e3, -⟩ := hC1
  exact ⟨LC_fr hC' e1 e2 c1n e3 (Nat.le_refl _), fun p hp => by
    by_cases hpr : p < r.1
    · exact e1 p hpr hp
    · rw [e3 p (by omega), d1 p (by omega)]⟩
theorem CEr_base {r1 : CR} {u v k p : Nat} {w : XT} {n1 : Nat} (h1 : CEr K q rd h n1 r1 b u v k p w) (he : ∀ p, p < m0 → h p = hb p) (hn : m0 ≤ n1) : CEr K q rd hb m0 r1 b u v k p w := by
  obtain ⟨a, h', r', e, ⟨x1, x2, x3, x4, x5⟩, y⟩ := h1
  exact ⟨a, h', r', e, ⟨x1, x2, fun p p1 p2 => (x3 p (by omega) p2).trans (he p p1), x4, x5⟩, y⟩
theorem LC_base (hC : LC K q rd n T hb m0 f0 f h r B g nm D S b) : (∀ p, p < m0 → h p = hb p) ∧ m0 ≤ r.1 ∧ b ≤ n ∧ FR h r.1 ∧ rd < r.1 := by
  obtain ⟨ly, mo, fw, fr, ⟨⟨c1, v, e, -⟩, -⟩, -, -, -, -, ⟨d1, d2, d3, d4, -⟩, -⟩ := hC
  exact ⟨d4, d3, c1, d1, FR_lt d1 e⟩
/-- which lines that may stand once have been read -/
def FD (D : Nat) (S : OS) : Prop := D < 8 ∧ D.testBit 0 = S.2.2 ∧ D.testBit 1 = (pY S.1).isSome ∧ D.testBit 2 = (pZ S.1).isSome
/-- what a line comes to, on the component's side -/
def CLn (K q : Nat → Nat) (rd n : Nat) (T : Nat → Nat) (hb : CH) (m0 : Nat) (f0 : CH) (r : CR) (b : Nat) (res : OT) (z : Option (CS ⊕ XT)) : Prop := match res with
  | .inl (S', b') => ∃ f' h' r' B' g' nm' D', z = some (.inl (h', r')) ∧ LC K q rd n T hb m0 f0 f' h' r' B' g' nm' D' S' b' ∧ (FD D' S' ∧ ∀ c, g' 3 c = 0) ∧ (r'.2.1 ≤ r.2.1 ∧ r'.2.2 ≤ r.2.2 ∧ r.2.1 ≤ r'.2.1 + 100 * (b' - b) ∧ r.2.2 ≤ r'.2.2 + 3000 * (b' - b)) ∧ r.1 ≤ r'.1
  | .inr (k, p) => ∃ w, z = some (.inr w) ∧ CEr K q rd hb m0 r b 70 700 k p w
/-- a number at the token -/
theorem LC_num (hG : LG K q rd n T hb m0 f0) (hC : LC K q rd n T hb m0 f0 f h r B g nm D S b) {m : Nat} {x : Int32} (hx : x = i3 m) (hm : m < 2 ^ 31) (h1 : 1 ≤ r.2.1) (h2 : 7 ≤ r.2.2) : match spNum T n m b with
    | .inl (b1, v) => ∃ h1, vc h rd 4 (xchk r (C5_number K h r rd 0 x)) = some (.inl (i3 v, (h1, r))) ∧ LC K q rd n T hb m0 f0 f h1 r B g nm D S b1 ∧ ∀ p, p ≠ rd → h1 p = h p
    | .inr (k, p) => ∃ w, vc h rd 4 (xchk r (C5_number K h r rd 0 x)) = some (.inr w) ∧ CEr K q rd hb m0 r b 1 7 k p w := by
  obtain ⟨q1, q2, q3⟩ := LC_to hG hC
  have hN := C_number q1 q2 hx hm h1 h2
  have hbase := LC_base hC
  cases e : spNum T n m b with
  | inl z =>
    obtain ⟨b1, v⟩ := z
    rw [e] at hN
    obtain ⟨k1, x1, x2, x3⟩ := hN
    exact ⟨k1, x1, (q3 k1 b1 x2).1, (q3 k1 b1 x2).2⟩
  | inr z =>
    obtain ⟨k, p⟩ := z
    rw [e] at hN
    obtain ⟨w, x1, x2⟩ := hN
    exact ⟨w, x1, CEr_base x2 hbase.1 hbase.2.1⟩
theorem LC_nx (hG : LG K q rd n T hb m0 f0) (hC : LC K q rd n T hb m0 f0 f h r B g nm D S b) : ∃ h1, vc h rd 4 (C5_next K h rd) = some h1 ∧ LC K q rd n T hb m0 f0 f h1 r B g nm D S (nxb T n b) ∧ ∀ p, p ≠ rd → h1 p = h p := by
  obtain ⟨q1, q2, q3⟩ := LC_to hG hC
  obtain ⟨k1, g1, g2, g3⟩ := CT_next q1 q2
  exact ⟨k1, g1, (q3 k1 _ g2).1, g3⟩
theorem LC_want_y (hG : LG K q rd n T hb m0 f0) (hC : LC K q rd n T hb m0 f0 f h r B g nm D S b) {k : Int32} {x : Bool} (hx : x = true) : vc h rd 4 (xchv r (C5_want K h r rd (bI x) k)) = some (.inl (h, r)) := by
  obtain ⟨q1, q2, q3⟩ := LC_to hG hC
  exact want_ok q2 hx
theorem LC_want_n (hG : LG K q rd n T hb m0 f0) (hC : LC K q rd n T hb m0 f0 f h r B g nm D S b) {k : Nat} {x : Int32} {c : Bool} (hc : c = false) (hx : x = i3 k) (h1 : 1 ≤ r.2.1) (h2 : 7 ≤ r.2.2) : ∃ w, vc h rd 4 (xchv r (C5_want K h r rd (bI c) x)) = some (.inr w) ∧ CEr K q rd hb m0 r b 1 7 k b w := by
  obtain ⟨q1, q2, q3⟩ := LC_to hG hC
  have hbase := LC_base hC
  obtain ⟨w, w1, w2⟩ := CEr_no (K := K) (u := 1) (v := 7) q2 hc hx (H0_rd q1) (by decide) (by decide) h1 h2
  exact ⟨w, w1, CEr_base w2 hbase.1 hbase.2.1⟩
theorem LC_is (hG : LG K q rd n T hb m0 f0) (hC : LC K q rd n T hb m0 f0 f h r B g nm D S b) {i k : Nat} (hi : i < 18) (hi2 : i ≠ 12) (hm : mpT i = k) (hk : k < 17) : vc h rd 4 (C5_is K h rd i) = some (bI (decide (kw T n b = some k))) := by
  obtain ⟨q1, q2, q3⟩ := LC_to hG hC
  exact CT_is q1 q2 hi hi2 hm hk
theorem LC_sg (hG : LG K q rd n T hb m0 f0) (hC : LC K q rd n T hb m0 f0 f h r B g nm D S b) {c : Nat} {x : Int32} (hx : x = i3 c) (hc : c < 128) : vc h rd 4 (C5_isSign h rd x) = some (bI (sg T n b c)) := by
  obtain ⟨q1, q2, q3⟩ := LC_to hG hC
  exact LR_sg (CT_LR q1 q2) hx hc
theorem LC_vc (hC : LC K q rd n T hb m0 f0 f h r B g nm D S b) {α : Type} {x : Option α} : vc h rd 4 x = x := by
  obtain ⟨ly, mo, fw, fr, ⟨⟨c1, v, e, -⟩, -⟩, -⟩ := hC
  exact vc_of e
theorem LC_rd (hC : LC K q rd n T hb m0 f0 f h r B g nm D S b) : gR h rd 4 1 = some (B 1) ∧ gR h rd 4 2 = some (B 2) ∧ gR h rd 4 3 = some (q 3) ∧ gI h rd 4 8 = some (i3 (tkK T n b)) := by
  obtain ⟨ly, mo, fw, fr, ⟨⟨c1, v, e, -⟩, -⟩, -, -, -, -, -, ⟨-, b1, b2, -⟩⟩ := hC
  exact ⟨by rw [b1]; exact gR_of e (k := 1) rfl, by rw [b2]; exact gR_of e (k := 2) rfl, gR_of e (k := 3) rfl, gI_of e (k := 8) rfl⟩
/-- a service's array is written at a place that isn't told yet -/
theorem LC_arr {i N : Nat} {v : Int32} (hC : LC K q rd n T hb m0 f0 f h r B g nm D S b) (hi : i < 3) (hN : pN S.1 ≤ N) : LC K q rd n T hb m0 f0 f (hup h (B (3 + i)) (.inl (0, 9, .inl (upd (g i) N v)))) r B (upg g i N v) nm D S b := by
  have hbs := LC_base hC
  obtain ⟨ly, mo, fw, fr, ⟨⟨c1, v0, ev, c1x⟩, c1n⟩, ⟨c2, ⟨s1, s2, s3, s4, s5⟩, a1, a2, a3, a4, a5⟩, ⟨c3, c3w⟩, ⟨c4, c4r⟩, ⟨c5, c6⟩, ⟨d1, d2, d3, d4, d5, d6, d7, d8⟩, ⟨b0, b1, b2, b3, b4, b5, b6, b7⟩⟩ := hC
  have hne : ∀ j, j < 11 → j ≠ 3 + i → B j ≠ B (3 + i) := fun j hj hj2 x => by
    by_cases hj9 : j < 9
    · exact hj2 (b3 j (3 + i) hj9 (by omega) x)
    · exact b5 j (3 + i) (by omega) hj (by omega) x
  have hn : ∀ j, j < 11 → j ≠ 3 + i → hup h (B (3 + i)) (.inl (0, 9, .inl (upd (g i) N v))) (B j) = h (B j) := fun j hj hj2 => hup_n (hne j hj hj2)
  have hcell : ∃ x, h (B (3 + i)) = some x := by
    have : i = 0 ∨ i = 1 ∨ i = 2 := by omega
    rcases this with rfl | rfl | rfl
    · exact ⟨_, s2⟩
    · exact ⟨_, s3⟩
    · exact ⟨_, s4⟩
  obtain ⟨x0, hx0⟩ := hcell
  have hlt := FR_lt d1 hx0
  have hup3 : ∀ j, j < 3 → (hup h (B (3 + i)) (.inl (0, 9, .inl (upd (g i) N v)))) (B (3 + j)) = some (.inl (0, 9, .inl (upg g i N v j))) := by
    intro j hj
    unfold upg
    by_cases ej : j = i
    · subst ej
      rw [if_pos rfl]
      exact hup_s
    · rw [if_neg ej, hn (3 + j) (by omega) (by omega)]
      have : j = 0 ∨ j = 1 ∨ j = 2 := by omega
      rcases this with rfl | rfl | rfl
      · exact s2
      · exact s3
      · exact s4
  have hupg : ∀ j k, k < pN S.1 → upg g i N v j k = g j k := fun j k hk => by
    unfold upg
    by_cases ej : j = i
    · rw [if_pos ej, upd_n (by omega)]
    · rw [if_neg ej]
  refine ⟨ly, mo, fw, fr, ⟨⟨c1, v0, by rw [← b0, hn 0 (by decide) (by omega), b0]; exact ev, c1x⟩, c1n⟩, ⟨by rw [hn 1 (by decide) (by omega)]; exact c2, ⟨by rw [hn 2 (by decide) (by omega)]; exact s1, hup3 0 (by decide), hup3 1 (by decide), hup3 2 (by decide), ?_⟩, fun k hk => by rw [hupg 0 k hk]; exact a1 k hk, fun k hk => by rw [hupg 1 k hk]; exact a2 k hk, fun k hk => by rw [hupg 2 k hk]; exact a3 k hk, fun c hc => ?_, a5⟩, ⟨LMu_eq c3 (hn 7 (by decide) (by omega)) (fun _ => hn 9 (by decide) (by omega)), c3w⟩, ⟨LMu_eq c4 (hn 8 (by decide) (by omega)) (fun _ => hn 10 (by decide) (by omega)), c4r⟩, ⟨c5, c6⟩, ⟨FR_set d1 hlt, fun p x hx => ?_, d3, fun p hp => ?_, d5, d6, d7, d8⟩, ⟨b0, b1, b2, b3, b4, b5, b6, b7⟩⟩
  · show hup h _ _ (B (3 + 3)) = _
    rw [hn 6 (by decide) (by omega)]
    unfold upg
    rw [if_neg (by omega)]
    exact s5
  · unfold upg
    rw [if_neg (by omega)]
    exact a4 c hc
  · rw [hup_n (fun y => by
      have := b6 (3 + i) (by omega)
      rw [← y, hx] at this
      cases this)]
    exact d2 p x hx
  · rw [hup_n (fun y => by
      have := b4 (3 + i) (by omega)
      omega)]
    exact d4 p hp
end CLINES
