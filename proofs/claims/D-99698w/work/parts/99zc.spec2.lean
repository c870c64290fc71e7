/-! ===== office: lines, as both sides read them ===== -/
abbrev OS : Type := PO × SV × Bool
abbrev OT : Type := (OS × Nat) ⊕ (Nat × Nat)
def oN (P : PO) : PO := ((pN P + 1, pM P, pQ' P, pS P), P.2)
def oM' (P : PO) (R : Nat → Nat) (i : Nat) : PO := ((pN P, pM P + 1, pQ' P, pS P), (fun c => if c = pM P then R else pR P c), (fun c => if c = pM P then i else pL P c), P.2.2.2)
def oQ (P : PO) (a b : Nat) : PO := ((pN P, pM P, pQ' P + 1, pS P), pR P, pL P, (fun i => if i = pQ' P then a else pA P i), (fun i => if i = pQ' P then b else pB P i), P.2.2.2.2.2)
def oS' (P : PO) (v : Nat) : PO := ((pN P, pM P, pQ' P, v), P.2)
def oY (P : PO) (E : EX) : PO := (P.1, pR P, pL P, pA P, pB P, some E, pZ P)
def oZ (P : PO) (E : EX) : PO := (P.1, pR P, pL P, pA P, pB P, pY P, some E)
section SPEC2
variable {T : Nat → Nat} {n : Nat}
def spNum (T : Nat → Nat) (n m b : Nat) : (Nat × Nat) ⊕ (Nat × Nat) := if tkK T n b = 2 then (if tkE T n b - b ≤ 4 ∧ vlu T n b ≤ m then .inl (nxb T n b, vlu T n b) else .inr (2, b)) else .inr (1, b)
def spAm (T : Nat → Nat) (n m b : Nat) : Nat ⊕ (Nat × Nat) := if tkK T n b = 2 then (if tkE T n b - b ≤ 4 then (if vlu T n b < m then .inl (vlu T n b) else .inr (3, b)) else .inr (2, b)) else .inr (1, b)
def hasW (P : PO) (a b : Nat) : Bool := (List.range (pQ' P)).any fun i => decide (pA P i = a) && decide (pB P i = b)
def lnSheet (T : Nat → Nat) (n : Nat) (S : OS) (b : Nat) : OT := if pN S.1 < 9 then (match spNum T n 255 (nxb T n b) with
    | .inr e => .inr e
    | .inl (b1, l) => match spNum T n 255 b1 with
      | .inr e => .inr e
      | .inl (b2, g) => match spNum T n 3 b2 with
        | .inr e => .inr e
        | .inl (b3, t) => .inl ((oN S.1, upn (upn (upn S.2.1 (1 + pN S.1) l) (10 + pN S.1) g) (19 + pN S.1) t, S.2.2), b3)) else .inr (2, b)
def spRd (T : Nat → Nat) (n : Nat) : Nat → Nat → Nat → (Nat → Nat) → (Nat × Nat × (Nat → Nat)) ⊕ (Nat × Nat)
  | 0, b, _, _ => .inr (9, b)
  | f + 1, b, i, R => if tkK T n b = 2 then (if i < 6 then (match spNum T n 3 b with
      | .inr e => .inr e
      | .inl (b1, v) => spRd T n f b1 (i + 1) (fun q => if q = i then v else R q)) else .inr (2, b)) else .inl (b, i, R)
def lnClerk (T : Nat → Nat) (n : Nat) (S : OS) (b : Nat) : OT := if pM S.1 < 6 then (if tkK T n (nxb T n b) = 2 then (match spRd T n 8 (nxb T n b) 0 (fun _ => 0) with
    | .inr e => .inr e
    | .inl (b1, i, R) => .inl ((oM' S.1 R i, upn S.2.1 (28 + pM S.1) 0, S.2.2), b1)) else .inr (1, nxb T n b)) else .inr (2, b)
def lnWord (T : Nat → Nat) (n : Nat) (S : OS) (b : Nat) : OT := if pQ' S.1 < 12 then (match spAm T n (pN S.1) (nxb T n b) with
    | .inr e => .inr e
    | .inl a => match spAm T n (pN S.1) (nxb T n (nxb T n b)) with
      | .inr e => .inr e
      | .inl c => if a = c ∨ hasW S.1 a c = true then .inr (4, nxb T n (nxb T n b)) else .inl ((oQ S.1 a c, S.2), nxb T n (nxb T n (nxb T n b)))) else .inr (2, b)
def lnSlack (T : Nat → Nat) (n : Nat) (S : OS) (b : Nat) : OT := if S.2.2 = true then .inr (5, b) else (match spNum T n 8 (nxb T n b) with
    | .inr e => .inr e
    | .inl (b1, v) => .inl ((oS' S.1 v, S.2.1, true), b1))
def lnLays (T : Nat → Nat) (n : Nat) (S : OS) (b : Nat) : OT := match pY S.1 with
  | some _ => .inr (5, b)
  | none => match spX T n 4 8 9 0 (nxb T n b) with
    | .inr e => .inr e
    | .inl (b1, E) => .inl ((oY S.1 E, S.2), b1)
def lnMoulds (T : Nat → Nat) (n : Nat) (S : OS) (b : Nat) : OT := match pZ S.1 with
  | some _ => .inr (5, b)
  | none => match spX T n 0 5 9 0 (nxb T n b) with
    | .inr e => .inr e
    | .inl (b1, E) => .inl ((oZ S.1 E, S.2), b1)
def lnAny (T : Nat → Nat) (n : Nat) (S : OS) (b : Nat) : OT :=
  if kw T n b = some 11 then lnSlack T n S b
  else if kw T n b = some 12 then lnLays T n S b
  else if kw T n b = some 13 then lnMoulds T n S b
  else if kw T n b = some 2 then lnSheet T n S b
  else if kw T n b = some 9 then lnClerk T n S b
  else if kw T n b = some 10 then lnWord T n S b
  else .inr (1, b)
def spLine (T : Nat → Nat) (n : Nat) (S : OS) (b : Nat) : OT := match lnAny T n S b with
  | .inr e => .inr e
  | .inl (S1, b1) => if sg T n b1 59 = true then .inl (S1, nxb T n b1) else .inr (1, b1)
def spRead (T : Nat → Nat) (n : Nat) : Nat → OS → Nat → OS ⊕ (Nat × Nat)
  | 0, _, b => .inr (9, b)
  | f + 1, S, b => if tkK T n b = 0 then .inl S else (match spLine T n S b with
    | .inr e => .inr e
    | .inl (S1, b1) => spRead T n f S1 b1)
def P0 : PO := ((0, 0, 0, 0), (fun _ _ => 0), (fun _ => 0), (fun _ => 0), (fun _ => 0), none, none)
def spOff (T : Nat → Nat) (n : Nat) : OS ⊕ (Nat × Nat) := spRead T n 701 (P0, fun _ => 0, false) (run isW T n 700 0)
/-! where lines end; what they make is well formed -/
def WFL (S : OS) : Prop := WFP S.1 ∧ WFS S.1 S.2.1 ∧ (∀ c, c < pM S.1 → S.2.1 (28 + c) = 0) ∧ S.2.1 0 = 0 ∧ (S.2.2 = false → pS S.1 = 0) ∧ ∀ k, k < pN S.1 → S.2.1 (19 + k) < 4
def LtOk (n b : Nat) (r : OT) : Prop := match r with
  | .inl (S, b1) => b + 1 ≤ b1 ∧ b1 ≤ n ∧ WFL S
  | .inr (k, p) => b ≤ p ∧ p ≤ n ∧ 1 ≤ k ∧ k ≤ 9
theorem LtOk_in {b b1 : Nat} {P : PO} {w : SV} {sl : Bool} (h1 : b + 1 ≤ b1) (h2 : b1 ≤ n) (h3 : WFP P) (h4 : WFS P w) (h5 : ∀ c, c < pM P → w (28 + c) = 0) (h6 : w 0 = 0) (h7 : sl = false → pS P = 0) (h8 : ∀ k, k < pN P → w (19 + k) < 4) : LtOk n b (.inl ((P, w, sl), b1)) := ⟨h1, h2, h3, h4, h5, h6, h7, h8⟩
theorem spNum_ok {m b : Nat} (hb : b ≤ n) : match spNum T n m b with
    | .inl (b1, v) => b + 1 ≤ b1 ∧ b1 ≤ n ∧ v ≤ m ∧ tkK T n b = 2
    | .inr (k, p) => p = b ∧ 1 ≤ k ∧ k ≤ 9 := by
  unfold spNum
  by_cases e2 : tkK T n b = 2
  · have hlt : b < n := tk_lt (by rw [e2]; decide)
    rw [if_pos e2]
    by_cases e : tkE T n b - b ≤ 4 ∧ vlu T n b ≤ m
    · rw [if_pos e]
      exact ⟨nxt_lt hlt, nxt_le hb, e.2, e2⟩
    · rw [if_neg e]
      exact ⟨rfl, by decide, by decide⟩
  · rw [if_neg e2]
    exact ⟨rfl, by decide, by decide⟩
theorem spAm_ok {m b : Nat} : match spAm T n m b with
    | .inl v => v < m ∧ tkK T n b = 2
    | .inr (k, p) => p = b ∧ 1 ≤ k ∧ k ≤ 9 := by
  unfold spAm
  by_cases e2 : tkK T n b = 2
  · rw [if_pos e2]
    by_cases e4 : tkE T n b - b ≤ 4
    · rw [if_pos e4]
      by_cases e : vlu T n b < m
      · rw [if_pos e]
        exact ⟨e, e2⟩
      · rw [if_neg e]
        exact ⟨rfl, by decide, by decide⟩
    · rw [if_neg e4]
      exact ⟨rfl, by decide, by decide⟩
  · rw [if_neg e2]
    exact ⟨rfl, by decide, by decide⟩
theorem spRd_ok : ∀ f b i R, b ≤ n → i ≤ 6 → (∀ q, q < i → R q < 4) → (match spRd T n f b i R with
    | .inl (b1, i1, R1) => b ≤ b1 ∧ b1 ≤ n ∧ i ≤ i1 ∧ i1 ≤ 6 ∧ (∀ q, q < i1 → R1 q < 4) ∧ (tkK T n b = 2 → i + 1 ≤ i1) ∧ ¬ tkK T n b1 = 2
    | .inr (k, p) => b ≤ p ∧ p ≤ n ∧ 1 ≤ k ∧ k ≤ 9) := by
  intro f
  induction f with
  | zero => intro b i R hb _ _; exact ⟨Nat.le_refl _, hb, by decide, by decide⟩
  | succ f ih =>
    intro b i R hb hi hR
    unfold spRd
    by_cases e2 : tkK T n b = 2
    · rw [if_pos e2]
      by_cases e6 : i < 6
      · rw [if_pos e6]
        have h1 := spNum_ok (T := T) (n := n) (m := 3) hb
        cases e : spNum T n 3 b with
        | inr z =>
          obtain ⟨k, p⟩ := z
          rw [e] at h1
          exact ⟨by have := h1.1; omega, by have := h1.1; omega, h1.2⟩
        | inl z =>
          obtain ⟨b1, v⟩ := z
          rw [e] at h1
          obtain ⟨g1, g2, g3, -⟩ := h1
          dsimp only
          have h2 := ih b1 (i + 1) (fun q => if q = i then v else R q) g2 (by omega) (fun q hq => by
            split
            · omega
            · exact hR q (by omega))
          cases e5 : spRd T n f b1 (i + 1) (fun q => if q = i then v else R q) with
          | inr z =>
            obtain ⟨k, p⟩ := z
            rw [e5] at h2
            exact ⟨by have := h2.1; omega, h2.2⟩
          | inl z =>
            obtain ⟨b2, i2, R2⟩ := z
            rw [e5] at h2
            obtain ⟨q1, q2, q3, q4, q5, -, q7⟩ := h2
            exact ⟨by omega, q2, by omega, q4, q5, fun _ => q3, q7⟩
      · rw [if_neg e6]
        exact ⟨Nat.le_refl _, hb, by decide, by decide⟩
    · rw [if_neg e2]
      exact ⟨Nat.le_refl _, hb, Nat.le_refl _, hi, hR, fun x => absurd x e2, e2⟩
theorem WFS_lo {P P' : PO} {w : SV} (h : WFS P w) (h1 : pN P' ≤ pN P) (h2 : pM P' = pM P) : WFS P' w := by
  obtain ⟨a1, a2, a3, a4, a5⟩ := h
  exact ⟨fun k hk => a1 k (by omega), fun k hk => a2 k (by omega), fun k hk => by rw [h2]; exact a3 k (by omega), fun c hc => a4 c (by omega), a5⟩
theorem lnSheet_ok {S : OS} {b : Nat} (hb : b < n) (hS : WFL S) : LtOk n b (lnSheet T n S b) := by
  obtain ⟨P, w, sl⟩ := S
  obtain ⟨⟨p1, p2, p3, p4, p5, p6, p7⟩, ⟨w1, w2, w3, w4, w5⟩, h3, h4, h5, h6⟩ := hS
  unfold lnSheet
  dsimp only at *
  have hnx := nxt_lt (T := T) hb
  have hnn := nxt_le (T := T) (n := n) (b := b) (by omega)
  by_cases e9 : pN P < 9
  · rw [if_pos e9]
    have a1 := spNum_ok (T := T) (n := n) (m := 255) hnn
    cases e1 : spNum T n 255 (nxb T n b) with
    | inr z => obtain ⟨k, p⟩ := z; rw [e1] at a1; exact ⟨by have := a1.1; omega, by have := a1.1; omega, a1.2⟩
    | inl z =>
      obtain ⟨b1, l⟩ := z
      rw [e1] at a1
      obtain ⟨x1, x2, x3, -⟩ := a1
      dsimp only
      have a2 := spNum_ok (T := T) (n := n) (m := 255) x2
      cases e2 : spNum T n 255 b1 with
      | inr z => obtain ⟨k, p⟩ := z; rw [e2] at a2; exact ⟨by have := a2.1; omega, by have := a2.1; omega, a2.2⟩
      | inl z =>
        obtain ⟨b2, g⟩ := z
        rw [e2] at a2
        obtain ⟨y1, y2, y3, -⟩ := a2
        dsimp only
        have a3 := spNum_ok (T := T) (n := n) (m := 3) y2
        cases e3 : spNum T n 3 b2 with
        | inr z => obtain ⟨k, p⟩ := z; rw [e3] at a3; exact ⟨by have := a3.1; omega, by have := a3.1; omega, a3.2⟩
        | inl z =>
          obtain ⟨b3, t⟩ := z
          rw [e3] at a3
          obtain ⟨z1, z2, z3, -⟩ := a3
          dsimp only
          have eN : pN (oN P) = pN P + 1 := rfl
          have eM : pM (oN P) = pM P := rfl
          have u : ∀ j, j ≠ 1 + pN P → j ≠ 10 + pN P → j ≠ 19 + pN P → upn (upn (upn w (1 + pN P) l) (10 + pN P) g) (19 + pN P) t j = w j := by
            intro j j1 j2 j3
            unfold upn
            rw [if_neg j3, if_neg j2, if_neg j1]
          have u1 : upn (upn (upn w (1 + pN P) l) (10 + pN P) g) (19 + pN P) t (1 + pN P) = l := by
            unfold upn
            rw [if_neg (by omega), if_neg (by omega), if_pos rfl]
          have u2 : upn (upn (upn w (1 + pN P) l) (10 + pN P) g) (19 + pN P) t (10 + pN P) = g := by
            unfold upn
            rw [if_neg (by omega), if_pos rfl]
          have u3 : upn (upn (upn w (1 + pN P) l) (10 + pN P) g) (19 + pN P) t (19 + pN P) = t := by
            unfold upn
            rw [if_pos rfl]
          refine LtOk_in (by omega) z2 ⟨?_, p2, p3, p4, p5, p6, fun i hi => ?_⟩ ⟨fun k hk => ?_, fun k hk => ?_, fun k hk => ?_, fun c hc => ?_, ?_⟩ (fun c hc => ?_) ?_ h5 (fun k hk => ?_)
          · show pN P + 1 ≤ 9
            omega
          · obtain ⟨i1, i2, i3⟩ := p7 i hi
            exact ⟨Nat.lt_succ_of_lt i1, Nat.lt_succ_of_lt i2, i3⟩
          · have hk2 : k < pN P + 1 := hk
            by_cases ek : k = pN P
            · rw [ek, u1]; omega
            · rw [u _ (by omega) (by omega) (by omega)]; exact w1 k (by omega)
          · have hk2 : k < pN P + 1 := hk
            by_cases ek : k = pN P
            · rw [ek, u2]; omega
            · rw [u _ (by omega) (by omega) (by omega)]; exact w2 k (by omega)
          · have hk2 : k < pN P + 1 := hk
            by_cases ek : k = pN P
            · rw [ek, u3]; omega
            · rw [u _ (by omega) (by omega) (by omega)]; exact w3 k (by omega)
          · rw [u _ (by omega) (by omega) (by omega)]; exact w4 c hc
          · rw [u _ (by omega) (by omega) (by omega)]; exact w5
          · rw [u _ (by omega) (by omega) (by omega)]; exact h3 c hc
          · rw [u _ (by omega) (by omega) (by omega)]; exact h4
          · have hk2 : k < pN P + 1 := hk
            by_cases ek : k = pN P
            · rw [ek, u3]; omega
            · rw [u _ (by omega) (by omega) (by omega)]; exact h6 k (by omega)
  · rw [if_neg e9]
    exact ⟨Nat.le_refl _, by omega, by decide, by decide⟩
theorem lnClerk_ok {S : OS} {b : Nat} (hb : b < n) (hS : WFL S) : LtOk n b (lnClerk T n S b) := by
  obtain ⟨P, w, sl⟩ := S
  obtain ⟨⟨p1, p2, p3, p4, p5, p6, p7⟩, ⟨w1, w2, w3, w4, w5⟩, h3, h4, h5, h6⟩ := hS
  unfold lnClerk
  dsimp only at *
  have hnx := nxt_lt (T := T) hb
  have hnn := nxt_le (T := T) (n := n) (b := b) (by omega)
  by_cases e6 : pM P < 6
  · rw [if_pos e6]
    by_cases e2 : tkK T n (nxb T n b) = 2
    · rw [if_pos e2]
      have a1 := spRd_ok (T := T) (n := n) 8 (nxb T n b) 0 (fun _ => 0) hnn (by decide) (fun q hq => by omega)
      cases e1 : spRd T n 8 (nxb T n b) 0 (fun _ => 0) with
      | inr z => obtain ⟨k, p⟩ := z; rw [e1] at a1; exact ⟨by have := a1.1; omega, a1.2⟩
      | inl z =>
        obtain ⟨b1, i, R⟩ := z
        rw [e1] at a1
        obtain ⟨x1, x2, x3, x4, x5, x6, x7⟩ := a1
        have x6' := x6 e2
        dsimp only
        have u : ∀ j, j ≠ 28 + pM P → upn w (28 + pM P) 0 j = w j := fun j hj => if_neg hj
        have u1 : upn w (28 + pM P) 0 (28 + pM P) = 0 := if_pos rfl
        refine LtOk_in (by omega) x2 ⟨p1, ?_, p3, p4, fun c j hc hj => ?_, fun c hc => ?_, p7⟩ ⟨fun k hk => ?_, fun k hk => ?_, fun k hk => ?_, fun c hc => ?_, ?_⟩ (fun c hc => ?_) ?_ h5 (fun k hk => ?_)
        · show pM P + 1 ≤ 6
          omega
        · have hc2 : c < pM P + 1 := hc
          have hj2 : j < (if c = pM P then i else pL P c) := hj
          show (if c = pM P then R else pR P c) j < 4
          by_cases ec : c = pM P
          · rw [if_pos ec] at hj2 ⊢; exact x5 j hj2
          · rw [if_neg ec] at hj2 ⊢; exact p5 c j (by omega) hj2
        · have hc2 : c < pM P + 1 := hc
          show 1 ≤ (if c = pM P then i else pL P c) ∧ (if c = pM P then i else pL P c) ≤ 6
          by_cases ec : c = pM P
          · rw [if_pos ec]; omega
          · rw [if_neg ec]; exact p6 c (by omega)
        · have hk2 : k < pN P := hk
          rw [u _ (by omega)]; exact w1 k hk
        · have hk2 : k < pN P := hk
          rw [u _ (by omega)]; exact w2 k hk
        · have hk2 : k < pN P := hk
          rw [u _ (by omega)]
          rcases w3 k hk with q | q | q
          · exact .inl q
          · refine .inr (.inl ⟨q.1, ?_⟩)
            show w (19 + k) < 4 + (pM P + 1)
            omega
          · exact .inr (.inr q)
        · have hc2 : c < pM P + 1 := hc
          by_cases ec : c = pM P
          · rw [ec, u1]; decide
          · rw [u _ (by omega)]; exact w4 c (by omega)
        · rw [u _ (by omega)]; exact w5
        · have hc2 : c < pM P + 1 := hc
          by_cases ec : c = pM P
          · rw [ec, u1]
          · rw [u _ (by omega)]; exact h3 c (by omega)
        · rw [u _ (by omega)]; exact h4
        · have hk2 : k < pN P := hk
          rw [u _ (by omega)]; exact h6 k hk
    · rw [if_neg e2]
      exact ⟨by omega, hnn, by decide, by decide⟩
  · rw [if_neg e6]
    exact ⟨Nat.le_refl _, by omega, by decide, by decide⟩
theorem lnWord_ok {S : OS} {b : Nat} (hb : b < n) (hS : WFL S) : LtOk n b (lnWord T n S b) := by
  obtain ⟨P, w, sl⟩ := S
  obtain ⟨⟨p1, p2, p3, p4, p5, p6, p7⟩, hw, h3, h4, h5, h6⟩ := hS
  unfold lnWord
  dsimp only at *
  have hnx := nxt_lt (T := T) hb
  have hnn := nxt_le (T := T) (n := n) (b := b) (by omega)
  by_cases e12 : pQ' P < 12
  · rw [if_pos e12]
    have a1 := spAm_ok (T := T) (n := n) (m := pN P) (b := nxb T n b)
    cases e1 : spAm T n (pN P) (nxb T n b) with
    | inr z => obtain ⟨k, p⟩ := z; rw [e1] at a1; exact ⟨by have := a1.1; omega, by have := a1.1; omega, a1.2⟩
    | inl a =>
      rw [e1] at a1
      have hlt1 : nxb T n b < n := tk_lt (by rw [a1.2]; decide)
      have hnx1 := nxt_lt (T := T) hlt1
      have hnn1 := nxt_le (T := T) (n := n) (b := nxb T n b) (by omega)
      dsimp only
      have a2 := spAm_ok (T := T) (n := n) (m := pN P) (b := nxb T n (nxb T n b))
      cases e2 : spAm T n (pN P) (nxb T n (nxb T n b)) with
      | inr z => obtain ⟨k, p⟩ := z; rw [e2] at a2; exact ⟨by have := a2.1; omega, by have := a2.1; omega, a2.2⟩
      | inl c =>
        rw [e2] at a2
        have hlt2 : nxb T n (nxb T n b) < n := tk_lt (by rw [a2.2]; decide)
        have hnx2 := nxt_lt (T := T) hlt2
        have hnn2 := nxt_le (T := T) (n := n) (b := nxb T n (nxb T n b)) (by omega)
        dsimp only
        by_cases e4 : a = c ∨ hasW P a c = true
        · rw [if_pos e4]
          exact ⟨by omega, by omega, by decide, by decide⟩
        · rw [if_neg e4]
          refine LtOk_in (by omega) hnn2 ⟨p1, p2, ?_, p4, p5, p6, fun i hi => ?_⟩ hw h3 h4 h5 h6
          · show pQ' P + 1 ≤ 12
            omega
          · have hi2 : i < pQ' P + 1 := hi
            show (if i = pQ' P then a else pA P i) < pN P ∧ (if i = pQ' P then c else pB P i) < pN P ∧ (if i = pQ' P then a else pA P i) ≠ (if i = pQ' P then c else pB P i)
            by_cases ei : i = pQ' P
            · rw [if_pos ei, if_pos ei]
              exact ⟨a1.1, a2.1, fun x => e4 (.inl x)⟩
            · rw [if_neg ei, if_neg ei]
              exact p7 i (by omega)
  · rw [if_neg e12]
    exact ⟨Nat.le_refl _, by omega, by decide, by decide⟩
theorem lnSlack_ok {S : OS} {b : Nat} (hb : b < n) (hS : WFL S) : LtOk n b (lnSlack T n S b) := by
  obtain ⟨P, w, sl⟩ := S
  obtain ⟨⟨p1, p2, p3, p4, p5, p6, p7⟩, hw, h3, h4, h5, h6⟩ := hS
  unfold lnSlack
  dsimp only at *
  have hnx := nxt_lt (T := T) hb
  have hnn := nxt_le (T := T) (n := n) (b := b) (by omega)
  by_cases es : sl = true
  · rw [if_pos es]
    exact ⟨Nat.le_refl _, by omega, by decide, by decide⟩
  · rw [if_neg es]
    have a1 := spNum_ok (T := T) (n := n) (m := 8) hnn
    cases e1 : spNum T n 8 (nxb T n b) with
    | inr z => obtain ⟨k, p⟩ := z; rw [e1] at a1; exact ⟨by have := a1.1; omega, by have := a1.1; omega, a1.2⟩
    | inl z =>
      obtain ⟨b1, v⟩ := z
      rw [e1] at a1
      obtain ⟨x1, x2, x3, -⟩ := a1
      exact LtOk_in (by omega) x2 ⟨p1, p2, p3, x3, p5, p6, p7⟩ hw h3 h4 (fun x => Bool.noConfusion x) h6
theorem lnLays_ok {S : OS} {b : Nat} (hb : b < n) (hS : WFL S) : LtOk n b (lnLays T n S b) := by
  obtain ⟨P, w, sl⟩ := S
  obtain ⟨hP, hw, h3, h4, h5, h6⟩ := hS
  unfold lnLays
  dsimp only at *
  have hnx := nxt_lt (T := T) hb
  have hnn := nxt_le (T := T) (n := n) (b := b) (by omega)
  cases pY P with
  | some E => exact ⟨Nat.le_refl _, by omega, by decide, by decide⟩
  | none =>
    dsimp only
    have a1 := spX_ok (T := T) (n := n) (lo := 4) (hi := 8) 9 0 (nxb T n b) hnn
    cases e1 : spX T n 4 8 9 0 (nxb T n b) with
    | inr z => obtain ⟨k, p⟩ := z; rw [e1] at a1; exact ⟨by have := a1.1; omega, a1.2⟩
    | inl z =>
      obtain ⟨b1, E⟩ := z
      rw [e1] at a1
      have a2 : nxb T n b + 1 ≤ b1 ∧ b1 ≤ n := a1
      exact ⟨by omega, a2.2, hP, hw, h3, h4, h5, h6⟩
theorem lnMoulds_ok {S : OS} {b : Nat} (hb : b < n) (hS : WFL S) : LtOk n b (lnMoulds T n S b) := by
  obtain ⟨P, w, sl⟩ := S
  obtain ⟨hP, hw, h3, h4, h5, h6⟩ := hS
  unfold lnMoulds
  dsimp only at *
  have hnx := nxt_lt (T := T) hb
  have hnn := nxt_le (T := T) (n := n) (b := b) (by omega)
  cases pZ P with
  | some E => exact ⟨Nat.le_refl _, by omega, by decide, by decide⟩
  | none =>
    dsimp only
    have a1 := spX_ok (T := T) (n := n) (lo := 0) (hi := 5) 9 0 (nxb T n b) hnn
    cases e1 : spX T n 0 5 9 0 (nxb T n b) with
    | inr z => obtain ⟨k, p⟩ := z; rw [e1] at a1; exact ⟨by have := a1.1; omega, a1.2⟩
    | inl z =>
      obtain ⟨b1, E⟩ := z
      rw [e1] at a1
      have a2 : nxb T n b + 1 ≤ b1 ∧ b1 ≤ n := a1
      exact ⟨by omega, a2.2, hP, hw, h3, h4, h5, h6⟩
theorem lnAny_ok {S : OS} {b : Nat} (hb : b < n) (hS : WFL S) : LtOk n b (lnAny T n S b) := by
  unfold lnAny
  repeat' split
  · exact lnSlack_ok hb hS
  · exact lnLays_ok hb hS
  · exact lnMoulds_ok hb hS
  · exact lnSheet_ok hb hS
  · exact lnClerk_ok hb hS
  · exact lnWord_ok hb hS
  · exact ⟨Nat.le_refl _, by omega, by decide, by decide⟩
theorem spLine_ok {S : OS} {b : Nat} (hb : b < n) (hS : WFL S) : LtOk n b (spLine T n S b) := by
  have h := lnAny_ok (T := T) hb hS
  unfold spLine
  cases e : lnAny T n S b with
  | inr z => rw [e] at h; exact h
  | inl z =>
    obtain ⟨S1, b1⟩ := z
    rw [e] at h
    have h2 : b + 1 ≤ b1 ∧ b1 ≤ n ∧ WFL S1 := h
    dsimp only
    by_cases e59 : sg T n b1 59 = true
    · have hlt := op_lt_sg e59
      rw [if_pos e59]
      exact ⟨by have := nxt_lt (T := T) hlt; omega, nxt_le h2.2.1, h2.2.2⟩
    · rw [if_neg e59]
      exact ⟨by omega, h2.2.1, by decide, by decide⟩
theorem WFL_0 : WFL (P0, fun _ => 0, false) :=
  ⟨⟨by decide, by decide, by decide, by decide, fun c i hc => absurd hc (Nat.not_lt_zero _), fun c hc => absurd hc (Nat.not_lt_zero _), fun i hi => absurd hi (Nat.not_lt_zero _)⟩, ⟨fun k hk => absurd hk (Nat.not_lt_zero _), fun k hk => absurd hk (Nat.not_lt_zero _), fun k hk => absurd hk (Nat.not_lt_zero _), fun c hc => absurd hc (Nat.not_lt_zero _), by decide⟩, fun c hc => absurd hc (Nat.not_lt_zero _), rfl, fun _ => rfl, fun k hk => absurd hk (Nat.not_lt_zero _)⟩
end SPEC2
