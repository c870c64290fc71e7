/-! ===== office: expressions, as both sides read them ===== -/
abbrev EX : Type := (Nat → Int32) → Int32
abbrev ER : Type := (Nat × EX) ⊕ (Nat × Nat)
/-- two values by a sign of the reference's -/
def wk (o : Nat) (a b : Int32) : Int32 :=
  if o = 4 then (if a = 0 then 0 else if b = 0 then 0 else 1)
  else if o = 5 then (if a = 0 then (if b = 0 then 0 else 1) else 1)
  else if o = 6 then (if a < b then 1 else 0)
  else if o = 7 then (if a = b then 1 else 0)
  else if o = 8 then a + b
  else if o = 9 then a - b
  else if o = 10 then a * b
  else (if b = 0 then 0 else a / b)
section SPEC
variable {T : Nat → Nat} {n lo hi : Nat}
def opM (T : Nat → Nat) (n b : Nat) : Option Nat := if sg T n b 42 = true then some 10 else if sg T n b 47 = true then some 11 else none
def opS (T : Nat → Nat) (n b : Nat) : Option Nat := if sg T n b 43 = true then some 8 else if sg T n b 45 = true then some 9 else none
def opR (T : Nat → Nat) (n b : Nat) : Option Nat := if sg T n b 60 = true then some 6 else if sg T n b 61 = true then some 7 else none
def opA (T : Nat → Nat) (n b : Nat) : Option Nat := if kw T n b = some 14 then some 4 else none
def opO (T : Nat → Nat) (n b : Nat) : Option Nat := if kw T n b = some 15 then some 5 else none
def spPart (T : Nat → Nat) (n lo hi : Nat) (X : Nat → ER) (b : Nat) : ER :=
  if tkK T n b = 2 then (if tkE T n b - b ≤ 4 then .inl (nxb T n b, fun _ => i3 (vlu T n b)) else .inr (2, b))
  else if sg T n b 40 = true then (match X (nxb T n b) with
    | .inr e => .inr e
    | .inl (b1, E) => if sg T n b1 41 = true then .inl (nxb T n b1, E) else .inr (1, b1))
  else if tkK T n b = 1 then (match kw T n b with
    | some k => if lo ≤ k ∧ k ≤ hi then .inl (nxb T n b, fun v => v k) else .inr (3, b)
    | none => .inr (3, b))
  else .inr (1, b)
def spL (T : Nat → Nat) (n : Nat) (op : Nat → Option Nat) (X : Nat → ER) : Nat → Nat → EX → ER
  | 0, b, _ => .inr (9, b)
  | f + 1, b, E => match op b with
    | none => .inl (b, E)
    | some o => match X (nxb T n b) with
      | .inr e => .inr e
      | .inl (b1, E1) => spL T n op X f b1 (fun v => wk o (E v) (E1 v))
def spC (T : Nat → Nat) (n : Nat) (op : Nat → Option Nat) (X : Nat → ER) (b : Nat) : ER := match X b with
  | .inr e => .inr e
  | .inl (b1, E) => spL T n op X 701 b1 E
def spN (T : Nat → Nat) (n : Nat) : Nat → Nat → Nat → (Nat × Nat) ⊕ (Nat × Nat)
  | 0, _, b => .inr (9, b)
  | f + 1, k, b => if kw T n b = some 16 then (if k < 6 then spN T n f (k + 1) (nxb T n b) else .inr (2, b)) else .inl (b, k)
def ntE (E : EX) : Nat → EX
  | 0 => E
  | k + 1 => fun v => if ntE E k v = 0 then 1 else 0
def spNot (T : Nat → Nat) (n : Nat) (Y : Nat → ER) (b : Nat) : ER := match spN T n 8 0 b with
  | .inr e => .inr e
  | .inl (b1, k) => match Y b1 with
    | .inr e => .inr e
    | .inl (b2, E) => match opR T n b2 with
      | none => .inl (b2, ntE E k)
      | some o => match Y (nxb T n b2) with
        | .inr e => .inr e
        | .inl (b3, E2) => .inl (b3, ntE (fun v => wk o (E v) (E2 v)) k)
def spProd (T : Nat → Nat) (n lo hi : Nat) (X : Nat → ER) : Nat → ER := spC T n (opM T n) (spPart T n lo hi X)
def spSum (T : Nat → Nat) (n lo hi : Nat) (X : Nat → ER) : Nat → ER := spC T n (opS T n) (spProd T n lo hi X)
def spNt (T : Nat → Nat) (n lo hi : Nat) (X : Nat → ER) : Nat → ER := spNot T n (spSum T n lo hi X)
def spAnd (T : Nat → Nat) (n lo hi : Nat) (X : Nat → ER) : Nat → ER := spC T n (opA T n) (spNt T n lo hi X)
def spOr (T : Nat → Nat) (n lo hi : Nat) (X : Nat → ER) : Nat → ER := spC T n (opO T n) (spAnd T n lo hi X)
def isB (T : Nat → Nat) (n b : Nat) : Bool := decide (tkK T n b = 2) || (decide (tkK T n b = 1) || sg T n b 40)
def spX (T : Nat → Nat) (n lo hi : Nat) : Nat → Nat → Nat → ER
  | 0, _, b => .inr (9, b)
  | d + 1, a, b => if isB T n b = true then (if a < 6 then spOr T n lo hi (spX T n lo hi d (a + 1)) b else .inr (2, b)) else .inr (1, b)
/-! where they end -/
def ErOk (n b : Nat) (r : ER) : Prop := match r with
  | .inl (b1, _) => b + 1 ≤ b1 ∧ b1 ≤ n
  | .inr (k, p) => b ≤ p ∧ p ≤ n ∧ 1 ≤ k ∧ k ≤ 9
def SpOk (n : Nat) (X : Nat → ER) : Prop := ∀ b, b ≤ n → ErOk n b (X b)
theorem ErOk_up {b b' : Nat} {r : ER} (h : ErOk n b' r) (hb : b ≤ b') : ErOk n b r := by
  unfold ErOk at h ⊢
  rcases r with ⟨b1, E⟩ | ⟨k, p⟩
  · exact ⟨by have := h.1; omega, h.2⟩
  · exact ⟨by have := h.1; omega, h.2⟩
theorem op_lt_sg {b c : Nat} (h : sg T n b c = true) : b < n := tk_lt (by rw [(sg_eq h).1]; decide)
theorem op_lt_kw {b k : Nat} (h : kw T n b = some k) : b < n := tk_lt (by rw [kw_word h]; decide)
/-- a sign stands within the text -/
def OpIn (n : Nat) (op : Nat → Option Nat) : Prop := ∀ b o, op b = some o → b < n
theorem opM_in : OpIn n (opM T n) := by
  intro b o h
  unfold opM at h
  split at h
  · next e => exact op_lt_sg e
  · split at h
    · next e => exact op_lt_sg e
    · cases h
theorem opS_in : OpIn n (opS T n) := by
  intro b o h
  unfold opS at h
  split at h
  · next e => exact op_lt_sg e
  · split at h
    · next e => exact op_lt_sg e
    · cases h
theorem opR_in : OpIn n (opR T n) := by
  intro b o h
  unfold opR at h
  split at h
  · next e => exact op_lt_sg e
  · split at h
    · next e => exact op_lt_sg e
    · cases h
theorem opA_in : OpIn n (opA T n) := by
  intro b o h
  unfold opA at h
  split at h
  · next e => exact op_lt_kw e
  · cases h
theorem opO_in : OpIn n (opO T n) := by
  intro b o h
  unfold opO at h
  split at h
  · next e => exact op_lt_kw e
  · cases h
theorem spPart_ok {X : Nat → ER} (hX : SpOk n X) : SpOk n (spPart T n lo hi X) := by
  intro b hb
  unfold spPart
  by_cases e2 : tkK T n b = 2
  · have hlt : b < n := tk_lt (by rw [e2]; decide)
    rw [if_pos e2]
    split
    · exact ⟨nxt_lt hlt, nxt_le hb⟩
    · exact ⟨Nat.le_refl _, hb, by decide, by decide⟩
  · rw [if_neg e2]
    by_cases e40 : sg T n b 40 = true
    · have hlt : b < n := op_lt_sg e40
      rw [if_pos e40]
      have h1 := hX (nxb T n b) (nxt_le hb)
      have h2 := nxt_lt (T := T) hlt
      cases e : X (nxb T n b) with
      | inr z =>
        rw [e] at h1
        exact ErOk_up h1 (by omega)
      | inl z =>
        obtain ⟨b1, E⟩ := z
        rw [e] at h1
        have h3 : nxb T n b + 1 ≤ b1 ∧ b1 ≤ n := h1
        dsimp only
        split
        · next e41 => exact ⟨by have := nxt_lt (T := T) (op_lt_sg e41); omega, nxt_le h3.2⟩
        · exact ⟨by omega, h3.2, by decide, by decide⟩
    · rw [if_neg e40]
      by_cases e1 : tkK T n b = 1
      · have hlt : b < n := tk_lt (by rw [e1]; decide)
        rw [if_pos e1]
        split
        · split
          · exact ⟨nxt_lt hlt, nxt_le hb⟩
          · exact ⟨Nat.le_refl _, hb, by decide, by decide⟩
        · exact ⟨Nat.le_refl _, hb, by decide, by decide⟩
      · rw [if_neg e1]
        exact ⟨Nat.le_refl _, hb, by decide, by decide⟩
theorem spL_ok {op : Nat → Option Nat} {X : Nat → ER} (ho : OpIn n op) (hX : SpOk n X) : ∀ f b E, b ≤ n → (match spL T n op X f b E with
    | .inl (b1, _) => b ≤ b1 ∧ b1 ≤ n
    | .inr (k, p) => b ≤ p ∧ p ≤ n ∧ 1 ≤ k ∧ k ≤ 9) := by
  intro f
  induction f with
  | zero => intro b E hb; exact ⟨Nat.le_refl _, hb, by decide, by decide⟩
  | succ f ih =>
    intro b E hb
    unfold spL
    cases eo : op b with
    | none => exact ⟨Nat.le_refl _, hb⟩
    | some o =>
      have hlt := ho b o eo
      have h1 := hX (nxb T n b) (nxt_le hb)
      have h2 := nxt_lt (T := T) hlt
      dsimp only
      cases e : X (nxb T n b) with
      | inr z =>
        obtain ⟨k, p⟩ := z
        rw [e] at h1
        have h3 : nxb T n b ≤ p ∧ p ≤ n ∧ 1 ≤ k ∧ k ≤ 9 := h1
        exact ⟨by omega, h3.2⟩
      | inl z =>
        obtain ⟨b1, E1⟩ := z
        rw [e] at h1
        have h3 : nxb T n b + 1 ≤ b1 ∧ b1 ≤ n := h1
        dsimp only
        have h4 := ih b1 (fun v => wk o (E v) (E1 v)) h3.2
        cases e5 : spL T n op X f b1 (fun v => wk o (E v) (E1 v)) with
        | inr z =>
          obtain ⟨k, p⟩ := z
          rw [e5] at h4
          exact ⟨by have := h4.1; omega, h4.2⟩
        | inl z =>
          obtain ⟨b2, E2⟩ := z
          rw [e5] at h4
          exact ⟨by have := h4.1; omega, h4.2⟩
theorem spC_ok {op : Nat → Option Nat} {X : Nat → ER} (ho : OpIn n op) (hX : SpOk n X) : SpOk n (spC T n op X) := by
  intro b hb
  have h1 := hX b hb
  unfold spC
  cases e : X b with
  | inr z => rw [e] at h1; exact h1
  | inl z =>
    obtain ⟨b1, E⟩ := z
    rw [e] at h1
    have h3 : b + 1 ≤ b1 ∧ b1 ≤ n := h1
    dsimp only
    have h4 := spL_ok (T := T) ho hX 701 b1 E h3.2
    cases e5 : spL T n op X 701 b1 E with
    | inr z =>
      obtain ⟨k, p⟩ := z
      rw [e5] at h4
      exact ⟨by have := h4.1; omega, h4.2⟩
    | inl z =>
      obtain ⟨b2, E2⟩ := z
      rw [e5] at h4
      exact ⟨by have := h4.1; omega, h4.2⟩
theorem spN_ok : ∀ f k b, b ≤ n → k ≤ 6 → (match spN T n f k b with
    | .inl (b1, k1) => b ≤ b1 ∧ b1 ≤ n ∧ k ≤ k1 ∧ k1 ≤ 6 ∧ b + (k1 - k) ≤ b1 ∧ ¬ kw T n b1 = some 16
    | .inr (k, p) => b ≤ p ∧ p ≤ n ∧ 1 ≤ k ∧ k ≤ 9) := by
  intro f
  induction f with
  | zero => intro k b hb _; exact ⟨Nat.le_refl _, hb, by decide, by decide⟩
  | succ f ih =>
    intro k b hb hk
    unfold spN
    by_cases e : kw T n b = some 16
    · have hlt := op_lt_kw e
      have h2 := nxt_lt (T := T) hlt
      rw [if_pos e]
      by_cases e6 : k < 6
      · rw [if_pos e6]
        have h4 := ih (k + 1) (nxb T n b) (nxt_le hb) (by omega)
        cases e5 : spN T n f (k + 1) (nxb T n b) with
        | inr z =>
          obtain ⟨k, p⟩ := z
          rw [e5] at h4
          exact ⟨by have := h4.1; omega, h4.2⟩
        | inl z =>
          obtain ⟨b2, k2⟩ := z
          rw [e5] at h4
          obtain ⟨g1, g2, g3, g4, g5, g6⟩ := h4
          exact ⟨by omega, g2, by omega, g4, by omega, g6⟩
      · rw [if_neg e6]
        exact ⟨Nat.le_refl _, hb, by decide, by decide⟩
    · rw [if_neg e]
      exact ⟨Nat.le_refl _, hb, Nat.le_refl _, hk, by omega, e⟩
theorem spNot_ok {Y : Nat → ER} (hY : SpOk n Y) : SpOk n (spNot T n Y) := by
  intro b hb
  unfold spNot
  have h0 := spN_ok (T := T) 8 0 b hb (by decide)
  cases e0 : spN T n 8 0 b with
  | inr z =>
    obtain ⟨k, p⟩ := z
    rw [e0] at h0
    exact h0
  | inl z =>
    obtain ⟨b1, k⟩ := z
    rw [e0] at h0
    obtain ⟨g1, g2, -, -, -, -⟩ := h0
    have h1 := hY b1 g2
    dsimp only
    cases e : Y b1 with
    | inr z => rw [e] at h1; exact ErOk_up h1 g1
    | inl z =>
      obtain ⟨b2, E⟩ := z
      rw [e] at h1
      have h3 : b1 + 1 ≤ b2 ∧ b2 ≤ n := h1
      dsimp only
      cases eo : opR T n b2 with
      | none => exact ⟨by omega, h3.2⟩
      | some o =>
        have hlt := opR_in b2 o eo
        have h2 := nxt_lt (T := T) hlt
        have h5 := hY (nxb T n b2) (nxt_le h3.2)
        dsimp only
        cases e6 : Y (nxb T n b2) with
        | inr z => rw [e6] at h5; exact ErOk_up h5 (by omega)
        | inl z =>
          obtain ⟨b3, E2⟩ := z
          rw [e6] at h5
          have h7 : nxb T n b2 + 1 ≤ b3 ∧ b3 ≤ n := h5
          exact ⟨by omega, h7.2⟩
theorem spProd_ok {X : Nat → ER} (hX : SpOk n X) : SpOk n (spProd T n lo hi X) := spC_ok opM_in (spPart_ok hX)
theorem spSum_ok {X : Nat → ER} (hX : SpOk n X) : SpOk n (spSum T n lo hi X) := spC_ok opS_in (spProd_ok hX)
theorem spNt_ok {X : Nat → ER} (hX : SpOk n X) : SpOk n (spNt T n lo hi X) := spNot_ok (spSum_ok hX)
theorem spAnd_ok {X : Nat → ER} (hX : SpOk n X) : SpOk n (spAnd T n lo hi X) := spC_ok opA_in (spNt_ok hX)
theorem spOr_ok {X : Nat → ER} (hX : SpOk n X) : SpOk n (spOr T n lo hi X) := spC_ok opO_in (spAnd_ok hX)
theorem spX_ok : ∀ d a, SpOk n (spX T n lo hi d a) := by
  intro d
  induction d with
  | zero => intro a b hb; exact ⟨Nat.le_refl _, hb, by decide, by decide⟩
  | succ d ih =>
    intro a b hb
    unfold spX
    split
    · split
      · exact spOr_ok (ih (a + 1)) b hb
      · exact ⟨Nat.le_refl _, hb, by decide, by decide⟩
    · exact ⟨Nat.le_refl _, hb, by decide, by decide⟩
/-! what stands behind them -/
theorem spL_exit {op : Nat → Option Nat} {X : Nat → ER} {P : Nat → Prop} (hX : ∀ b b1 E, X b = .inl (b1, E) → P b1) : ∀ f b E b1 E1, P b → spL T n op X f b E = .inl (b1, E1) → op b1 = none ∧ P b1 := by
  intro f
  induction f with
  | zero => intro b E b1 E1 _ h; cases h
  | succ f ih =>
    intro b E b1 E1 hP h
    unfold spL at h
    cases eo : op b with
    | none =>
      rw [eo] at h
      have := Sum.inl.inj h
      cases this
      exact ⟨eo, hP⟩
    | some o =>
      rw [eo] at h
      dsimp only at h
      cases e : X (nxb T n b) with
      | inr z => rw [e] at h; cases h
      | inl z =>
        obtain ⟨b2, E2⟩ := z
        rw [e] at h
        exact ih b2 _ b1 E1 (hX _ _ _ e) h
theorem spC_exit {op : Nat → Option Nat} {X : Nat → ER} {P : Nat → Prop} (hX : ∀ b b1 E, X b = .inl (b1, E) → P b1) {b b1 : Nat} {E1 : EX} (h : spC T n op X b = .inl (b1, E1)) : op b1 = none ∧ P b1 := by
  unfold spC at h
  cases e : X b with
  | inr z => rw [e] at h; cases h
  | inl z =>
    obtain ⟨b2, E2⟩ := z
    rw [e] at h
    exact spL_exit hX 701 b2 E2 b1 E1 (hX _ _ _ e) h
theorem spProd_exit {X : Nat → ER} {b b1 : Nat} {E1 : EX} (h : spProd T n lo hi X b = .inl (b1, E1)) : opM T n b1 = none := (spC_exit (P := fun _ => True) (fun _ _ _ _ => trivial) h).1
theorem spSum_exit {X : Nat → ER} {b b1 : Nat} {E1 : EX} (h : spSum T n lo hi X b = .inl (b1, E1)) : opS T n b1 = none ∧ opM T n b1 = none := spC_exit (P := fun p => opM T n p = none) (fun _ _ _ e => spProd_exit e) h
theorem spNt_exit {X : Nat → ER} {b b1 : Nat} {E1 : EX} (h : spNt T n lo hi X b = .inl (b1, E1)) : opS T n b1 = none ∧ opM T n b1 = none := by
  unfold spNt spNot at h
  cases e0 : spN T n 8 0 b with
  | inr z => rw [e0] at h; cases h
  | inl z =>
    obtain ⟨b2, k⟩ := z
    rw [e0] at h
    dsimp only at h
    cases e : spSum T n lo hi X b2 with
    | inr z => rw [e] at h; cases h
    | inl z =>
      obtain ⟨b3, E⟩ := z
      rw [e] at h
      dsimp only at h
      cases eo : opR T n b3 with
      | none =>
        rw [eo] at h
        have := Sum.inl.inj h
        cases this
        exact spSum_exit e
      | some o =>
        rw [eo] at h
        dsimp only at h
        cases e6 : spSum T n lo hi X (nxb T n b3) with
        | inr z => rw [e6] at h; cases h
        | inl z =>
          obtain ⟨b4, E2⟩ := z
          rw [e6] at h
          have := Sum.inl.inj h
          cases this
          exact spSum_exit e6
theorem spAnd_exit {X : Nat → ER} {b b1 : Nat} {E1 : EX} (h : spAnd T n lo hi X b = .inl (b1, E1)) : opA T n b1 = none ∧ opS T n b1 = none ∧ opM T n b1 = none := spC_exit (P := fun p => opS T n p = none ∧ opM T n p = none) (fun _ _ _ e => spNt_exit e) h
theorem spOr_exit {X : Nat → ER} {b b1 : Nat} {E1 : EX} (h : spOr T n lo hi X b = .inl (b1, E1)) : opO T n b1 = none ∧ opA T n b1 = none ∧ opS T n b1 = none ∧ opM T n b1 = none := spC_exit (P := fun p => opA T n p = none ∧ opS T n p = none ∧ opM T n p = none) (fun _ _ _ e => spAnd_exit e) h
theorem spX_exit {d a b b1 : Nat} {E1 : EX} (h : spX T n lo hi d a b = .inl (b1, E1)) : opO T n b1 = none ∧ opA T n b1 = none ∧ opS T n b1 = none ∧ opM T n b1 = none := by
  cases d with
  | zero => cases h
  | succ d =>
    unfold spX at h
    split at h
    · split at h
      · exact spOr_exit h
      · cases h
    · cases h
end SPEC
