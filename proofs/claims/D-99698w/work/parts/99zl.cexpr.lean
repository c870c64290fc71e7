/-! ===== office: the component reads an expression ===== -/
section CEXPR
variable {K q : Nat → Nat} {rd nm n n0 : Nat} {T : Nat → Nat} {d : Int32} {h0 h h' : CH} {r r' : CR} {cv : (Nat → Int32) → (Nat → Int32)} {L : List Nat} {b dd lo hi : Nat}
/-- the start of an expression's reading: nothing but the reader's cell changes below n0 -/
def H0c (K q : Nat → Nat) (rd nm n : Nat) (T : Nat → Nat) (L : List Nat) (h0 : CH) (n0 : Nat) : Prop := (KX K ∧ K 0 ≠ K 1 ∧ ∀ i, i < 500 → K i < n0) ∧ (TapeC h0 (q 13) T ∧ FR h0 n0 ∧ TXA K h0 nm L ∧ (∃ fs, h0 rd = some (.inr (4, fs))) ∧ KN K h0) ∧ (n ≤ 700 ∧ ∀ k, T k < 256)
def RDc (q : Nat → Nat) (rd nm n : Nat) (T : Nat → Nat) (d : Int32) (h : CH) (b : Nat) : Prop := b ≤ n ∧ ∃ v, h rd = some (.inr (4, rdF q (i3 n) nm (i3 (tkE T n b)) (i3 (tkK T n b)) (i3 b) (i3 (tkE T n b)) v d)) ∧ (tkK T n b = 2 → tkE T n b - b ≤ 4 → v = i3 (vlu T n b))
def CT (q : Nat → Nat) (rd nm n : Nat) (T : Nat → Nat) (d : Int32) (h0 : CH) (n0 : Nat) (h : CH) (r : CR) (b : Nat) : Prop := (∀ p, p < n0 → p ≠ rd → h p = h0 p) ∧ RDc q rd nm n T d h b ∧ FR h r.1 ∧ n0 ≤ r.1
theorem H0_lt (hH : H0c K q rd nm n T L h0 n0) {p : Nat} {x : CE} (e : h0 p = some x) : p < n0 := FR_lt hH.2.1.2.1 e
theorem H0_rd (hH : H0c K q rd nm n T L h0 n0) : rd < n0 := by
  obtain ⟨fs, e⟩ := hH.2.1.2.2.2.1
  exact H0_lt hH e
theorem CT_at (hH : H0c K q rd nm n T L h0 n0) (hC : CT q rd nm n T d h0 n0 h r b) {p : Nat} {x : CE} (e : h0 p = some x) (hp : p ≠ rd) : h p = some x := by rw [hC.1 p (H0_lt hH e) hp]; exact e
theorem CT_LR (hH : H0c K q rd nm n T L h0 n0) (hC : CT q rd nm n T d h0 n0 h r b) : LR q h rd T n b nm d := by
  have hH' := hH
  obtain ⟨-, ⟨⟨fo, tp, g, t1, t2, t3, t4⟩, -, -, ⟨fs, hr⟩, -⟩, hn, hT⟩ := hH
  refine ⟨⟨hC.2.1.1, hn, hT⟩, ⟨fo, tp, g, CT_at hH' hC t1 (fun x => by rw [x, hr] at t1; cases t1), t2, CT_at hH' hC t3 (fun x => by rw [x, hr] at t3; cases t3), t4⟩, hC.2.1.2⟩
theorem CT_TX (hH : H0c K q rd nm n T L h0 n0) (hC : CT q rd nm n T d h0 n0 h r b) : TXA K h nm L := by
  obtain ⟨g, g1, g2⟩ := hH.2.1.2.2.1
  obtain ⟨fs, hr⟩ := hH.2.1.2.2.2.1
  exact ⟨g, CT_at hH hC g1 (fun x => by rw [x, hr] at g1; cases g1), g2⟩
theorem KN_ag (hH : H0c K q rd nm n T L h0 n0) (he : ∀ p, p < n0 → p ≠ rd → h p = h0 p) : KN K h := by
  obtain ⟨fs, hr⟩ := hH.2.1.2.2.2.1
  obtain ⟨k1, k2, k3⟩ := hH.2.1.2.2.2.2
  have hb := hH.1.2.2
  have ne : ∀ p, h0 p = none → p ≠ rd := fun p e x => by rw [x, hr] at e; cases e
  exact ⟨by rw [he _ (hb 0 (by decide)) (ne _ k1)]; exact k1, by rw [he _ (hb 1 (by decide)) (ne _ k2)]; exact k2, fun i hi => by rw [he _ (hb (30 + i) (by omega)) (ne _ (k3 i hi))]; exact k3 i hi⟩
theorem CT_kp (hC : CT q rd nm n T d h0 n0 h r b) (he : ∀ p, p < n0 → h' p = h p) (hrd : rd < n0) (hf : FR h' r'.1) (hr : r.1 ≤ r'.1) : CT q rd nm n T d h0 n0 h' r' b := by
  obtain ⟨c1, ⟨c2, v, c3, c4⟩, c5, c6⟩ := hC
  exact ⟨fun p p1 p2 => (he p p1).trans (c1 p p1 p2), ⟨c2, v, by rw [he rd hrd]; exact c3, c4⟩, hf, by omega⟩
theorem CT_next (hH : H0c K q rd nm n T L h0 n0) (hC : CT q rd nm n T d h0 n0 h r b) : ∃ h1, vc h rd 4 (C5_next K h rd) = some h1 ∧ CT q rd nm n T d h0 n0 h1 r (nxb T n b) ∧ ∀ p, p ≠ rd → h1 p = h p := by
  obtain ⟨e, e1, ⟨e2, -, -⟩, -, v, e3, e4⟩ := LR_next hH.1.1 (CT_LR hH hC)
  have hrd := H0_rd hH
  obtain ⟨c1, -, c5, c6⟩ := hC
  exact ⟨_, e1, ⟨fun p p1 p2 => by rw [hup_n p2]; exact c1 p p1 p2, ⟨e2, v, e3, e4⟩, FR_set c5 (by omega), c6⟩, fun p hp => hup_n hp⟩
theorem CT_sign (hH : H0c K q rd nm n T L h0 n0) (hC : CT q rd nm n T d h0 n0 h r b) {c : Nat} (hc : c < 128) (hs : sg T n b c = true) : ∃ h1, vc h rd 4 (C5_sign K h rd) = some (i3 c, h1) ∧ CT q rd nm n T d h0 n0 h1 r (nxb T n b) ∧ ∀ p, p ≠ rd → h1 p = h p := by
  obtain ⟨e, e1, ⟨e2, -, -⟩, -, v, e3, e4⟩ := LR_sign hH.1.1 (CT_LR hH hC) hc hs
  have hrd := H0_rd hH
  obtain ⟨c1, -, c5, c6⟩ := hC
  exact ⟨_, e1, ⟨fun p p1 p2 => by rw [hup_n p2]; exact c1 p p1 p2, ⟨e2, v, e3, e4⟩, FR_set c5 (by omega), c6⟩, fun p hp => hup_n hp⟩
theorem CT_al (hH : H0c K q rd nm n T L h0 n0) (hC : CT q rd nm n T d h0 n0 h r b) (e : CE) (r2 : Nat × Nat) : CT q rd nm n T d h0 n0 (hup h r.1 e) (r.1 + 1, r2) b :=
  CT_kp hC (fun p hp => hup_n (by have := hC.2.2.2; omega)) (H0_rd hH) (FR_up hC.2.2.1) (Nat.le_succ _)
theorem CT_vc (hC : CT q rd nm n T d h0 n0 h r b) {α : Type} {x : Option α} : vc h rd 4 x = x := by
  obtain ⟨v, e, _⟩ := hC.2.1.2
  exact vc_of e
/-! what is wanted -/
theorem want_y {k : Int32} : C5_want K h r rd (bI true) k = some (.inl (h, r)) := by
  unfold C5_want
  rw [if_neg (by decide)]
theorem xchv_l' {w : CS} (h1 : w.2.2.1 ≤ r.2.1) (h2 : w.2.2.2 ≤ r.2.2) : xchv r (some (.inl w)) = some (.inl w) := by
  unfold xchv
  rw [Option.bind_some]
  dsimp only
  rw [if_pos ⟨h1, h2⟩]
theorem xchv_r' {w : XT} (h1 : w.2.2.2.2.1 ≤ r.2.1) (h2 : w.2.2.2.2.2 ≤ r.2.2) : xchv r (some (.inr w)) = some (.inr w) := by
  unfold xchv
  rw [Option.bind_some]
  dsimp only
  rw [if_pos ⟨h1, h2⟩]
theorem xchk_l' {α : Type} {w : α × CS} (h1 : w.2.2.2.1 ≤ r.2.1) (h2 : w.2.2.2.2 ≤ r.2.2) : xchk r (some (.inl w)) = some (.inl w) := by
  unfold xchk
  rw [Option.bind_some]
  dsimp only
  rw [if_pos ⟨h1, h2⟩]
theorem xchk_r' {α : Type} {w : XT} (h1 : w.2.2.2.2.1 ≤ r.2.1) (h2 : w.2.2.2.2.2 ≤ r.2.2) : xchk (α := α) r (some (.inr w)) = some (.inr w) := by
  unfold xchk
  rw [Option.bind_some]
  dsimp only
  rw [if_pos ⟨h1, h2⟩]
theorem want_ok (hC : CT q rd nm n T d h0 n0 h r b) {k : Int32} {x : Bool} (hx : x = true) : vc h rd 4 (xchv r (C5_want K h r rd (bI x) k)) = some (.inl (h, r)) := by
  rw [CT_vc hC, hx, want_y]
  exact xchv_l' (w := (h, r)) (Nat.le_refl _) (Nat.le_refl _)
theorem want_n {k : Nat} {x : Int32} (hx : x = i3 k) (h1 : 1 ≤ r.2.1) (h2 : 7 ≤ r.2.2) : ∃ h', C5_want K h r rd 0 x = some (.inr (2, r.1, (h', r.1 + 1, r.2.1 - 1, r.2.2 - 7))) ∧ (∃ fs, h' r.1 = some (.inr (5, fs)) ∧ fs[6]? = some (.int (i3 k))) ∧ ∀ p, p ≠ r.1 → h' p = h p := by
  have e3 : ∀ r2 : CR, CJ3_init_2 K (hup h r.1 (.inr (5, [.null, .null, .null, .null, .null, .int 0, .int 0]))) r2 r.1 0 0 = some (hup h r.1 (.inr (5, [.null, .null, .null, .null, .null, .int 0, .int 0])), r2) := by
    intro r2
    unfold CJ3_init_2
    rw [pQ_of hup_s (show 0 < 7 by decide), Option.bind_some, hup_hup, pQ_of hup_s (show 1 < 7 by decide), Option.bind_some, hup_hup, pQ_of hup_s (show 2 < 7 by decide), Option.bind_some, hup_hup, if_pos rfl, pQ_of hup_s (show 1 < 7 by decide), Option.bind_some, hup_hup, Option.bind_some]
    dsimp only
    rw [pQ_of hup_s (show 3 < 7 by decide), Option.bind_some, hup_hup, pQ_of hup_s (show 0 < 7 by decide), Option.bind_some, hup_hup, if_pos rfl, pQ_of hup_s (show 2 < 7 by decide), Option.bind_some, hup_hup]
    rfl
  have e6 : ∀ r2 : CR, C6_init K (hup h r.1 (.inr (5, [.null, .null, .null, .null, .null, .int 0, .int 0]))) r2 r.1 x = some (hup h r.1 (.inr (5, [.null, .null, .null, .null, .null, .int 0, .int x])), r2) := by
    intro r2
    have e4 : CJ4_init_2 K (hup h r.1 (.inr (5, [.null, .null, .null, .null, .null, .int 0, .int 0]))) r2 r.1 0 0 = some (hup h r.1 (.inr (5, [.null, .null, .null, .null, .null, .int 0, .int 0])), r2) := by
      unfold CJ4_init_2
      rw [achv_of (e3 r2) (Nat.le_refl _) (Nat.le_refl _), Option.bind_some]
    unfold C6_init
    rw [achv_of e4 (Nat.le_refl _) (Nat.le_refl _), Option.bind_some]
    dsimp only
    rw [pI_of hup_s (show 6 < 7 by decide), Option.bind_some, hup_hup]
    rfl
  refine ⟨hup h r.1 (.inr (5, [.null, .null, .null, .null, .null, .int 0, .int x])), ?_, ⟨_, hup_s, by rw [hx]; rfl⟩, fun p hp => hup_n hp⟩
  unfold C5_want
  rw [if_pos rfl, aCell_of h1 h2, Option.bind_some]
  dsimp only
  rw [achv_of (e6 _) (Nat.le_refl _) (Nat.le_refl _), Option.bind_some]
  dsimp only
  rw [vc_of hup_s, Option.bind_some]
/-- what reading comes to: l tells the level -/
def CEr (K q : Nat → Nat) (rd : Nat) (h0 : CH) (n0 : Nat) (r : CR) (b : Nat) (u v : Nat) (k p : Nat) (w : XT) : Prop := ∃ a h' r', w = (2, a, (h', r')) ∧ ((∃ fs, h' a = some (.inr (5, fs)) ∧ fs[6]? = some (.int (i3 k))) ∧ gI h' rd 4 9 = some (i3 p) ∧ (∀ p, p < n0 → p ≠ rd → h' p = h0 p) ∧ FR h' r'.1 ∧ r.1 ≤ r'.1) ∧ (r'.2.1 ≤ r.2.1 ∧ r'.2.2 ≤ r.2.2 ∧ r.2.1 ≤ r'.2.1 + 100 * (p - b) + u ∧ r.2.2 ≤ r'.2.2 + 3000 * (p - b) + v)
def CRs (K q : Nat → Nat) (rd nm n : Nat) (T : Nat → Nat) (d : Int32) (h0 : CH) (n0 : Nat) (cv : (Nat → Int32) → (Nat → Int32)) (l dd : Nat) (h : CH) (r : CR) (b : Nat) (res : ER) (z : Option ((Nat × CS) ⊕ XT)) : Prop := match res with
  | .inl (b', E) => ∃ a h' r', z = some (.inl (a, (h', r'))) ∧ CT q rd nm n T d h0 n0 h' r' b' ∧ (∀ p, p < r.1 → p ≠ rd → h' p = h p) ∧ FoR K dd cv h' r.1 r'.1 a E ∧ (r'.2.1 ≤ r.2.1 ∧ r'.2.2 ≤ r.2.2 ∧ r.2.1 + (90 - 10 * l) ≤ r'.2.1 + 100 * (b' - b) ∧ r.2.2 + (2900 - 100 * l) ≤ r'.2.2 + 3000 * (b' - b))
  | .inr (k, p) => ∃ w, z = some (.inr w) ∧ CEr K q rd h0 n0 r b (10 + 10 * l) (100 + 100 * l) k p w
def CNT (K q : Nat → Nat) (rd nm n : Nat) (T : Nat → Nat) (d : Int32) (h0 : CH) (n0 : Nat) (cv : (Nat → Int32) → (Nat → Int32)) (l dd : Nat) (X : Nat → ER) (fn : CH → CR → Option ((Nat × CS) ⊕ XT)) : Prop := ∀ (h : CH) (r : CR) (b : Nat), CT q rd nm n T d h0 n0 h r b → 100 * (n - b) + (10 + 10 * l) ≤ r.2.1 → 3000 * (n - b) + (100 + 100 * l) ≤ r.2.2 → CRs K q rd nm n T d h0 n0 cv l dd h r b (X b) (fn h r)
theorem CEr_up {r1 : CR} {b1 u v u' v' k p : Nat} {w : XT} (h1 : CEr K q rd h0 n0 r1 b1 u v k p w) (hr : r.1 ≤ r1.1) (ha : r1.2.1 ≤ r.2.1) (hb : r1.2.2 ≤ r.2.2) (hp : b ≤ b1) (hp1 : b1 ≤ p) (hc : r.2.1 + u ≤ r1.2.1 + 100 * (b1 - b) + u') (hd : r.2.2 + v ≤ r1.2.2 + 3000 * (b1 - b) + v') : CEr K q rd h0 n0 r b u' v' k p w := by
  obtain ⟨a, h', r', e, ⟨x1, x2, x3, x4, x5⟩, y1, y2, y3, y4⟩ := h1
  exact ⟨a, h', r', e, ⟨x1, x2, x3, x4, by omega⟩, by omega, by omega, by omega, by omega⟩
/-- something isn't as wanted, at the token that stands -/
theorem CEr_no (hC : CT q rd nm n T d h0 n0 h r b) {k u v : Nat} {x : Int32} {c : Bool} (hc : c = false) (hx : x = i3 k) (hrd : rd < n0) (hu : 1 ≤ u) (hv : 7 ≤ v) (h1 : 1 ≤ r.2.1) (h2 : 7 ≤ r.2.2) : ∃ w, vc h rd 4 (xchv r (C5_want K h r rd (bI c) x)) = some (.inr w) ∧ CEr K q rd h0 n0 r b u v k b w := by
  obtain ⟨h1', e1, e2, e3⟩ := want_n (K := K) (h := h) (r := r) (rd := rd) (k := k) hx h1 h2
  have hn := hC.2.2.2
  refine ⟨(2, r.1, (h1', r.1 + 1, r.2.1 - 1, r.2.2 - 7)), ?_, r.1, h1', (r.1 + 1, r.2.1 - 1, r.2.2 - 7), rfl, ⟨e2, ?_, fun p p1 p2 => by rw [e3 p (by omega)]; exact hC.1 p p1 p2, fun p hp => by
    have hp2 : r.1 + 1 ≤ p := hp
    rw [e3 p (by omega)]; exact hC.2.2.1 p (by omega), Nat.le_succ _⟩, Nat.sub_le _ _, Nat.sub_le _ _, (show r.2.1 ≤ r.2.1 - 1 + 100 * (b - b) + u by omega), (show r.2.2 ≤ r.2.2 - 7 + 3000 * (b - b) + v by omega)⟩
  · rw [CT_vc hC, hc, bI_f, e1]
    exact xchv_r' (w := (2, r.1, (h1', r.1 + 1, r.2.1 - 1, r.2.2 - 7))) (Nat.sub_le _ _) (Nat.sub_le _ _)
  · obtain ⟨v, e4, _⟩ := hC.2.1.2
    exact gI_of (k := 9) (by rw [e3 rd (by omega)]; exact e4) rfl
/-- a sub-reading that comes well -/
theorem sub_l {l b' : Nat} {X : Nat → ER} {E : EX} {z : Option ((Nat × CS) ⊕ XT)} (hC : CT q rd nm n T d h0 n0 h r b) (hX : CRs K q rd nm n T d h0 n0 cv l dd h r b (X b) z) (e : X b = .inl (b', E)) : ∃ a h' r', vc h rd 4 (xchk r z) = some (.inl (a, (h', r'))) ∧ CT q rd nm n T d h0 n0 h' r' b' ∧ (∀ p, p < r.1 → p ≠ rd → h' p = h p) ∧ FoR K dd cv h' r.1 r'.1 a E ∧ (r'.2.1 ≤ r.2.1 ∧ r'.2.2 ≤ r.2.2 ∧ r.2.1 + (90 - 10 * l) ≤ r'.2.1 + 100 * (b' - b) ∧ r.2.2 + (2900 - 100 * l) ≤ r'.2.2 + 3000 * (b' - b)) := by
  rw [e] at hX
  obtain ⟨a, h', r', x1, x2, x3, x4, x5⟩ := hX
  exact ⟨a, h', r', by rw [CT_vc hC, x1, xchk_l' x5.1 x5.2.1], x2, x3, x4, x5⟩
theorem sub_r {l k p : Nat} {X : Nat → ER} {z : Option ((Nat × CS) ⊕ XT)} (hC : CT q rd nm n T d h0 n0 h r b) (hX : CRs K q rd nm n T d h0 n0 cv l dd h r b (X b) z) (e : X b = .inr (k, p)) : ∃ w, vc h rd 4 (xchk r z) = some (.inr w) ∧ CEr K q rd h0 n0 r b (10 + 10 * l) (100 + 100 * l) k p w := by
  rw [e] at hX
  obtain ⟨w, x1, x2⟩ := hX
  refine ⟨w, ?_, x2⟩
  obtain ⟨a, h', r', e2, _, y1, y2, _, _⟩ := x2
  rw [CT_vc hC, x1, xchk_r' (by rw [e2]; exact y1) (by rw [e2]; exact y2)]
end CEXPR
