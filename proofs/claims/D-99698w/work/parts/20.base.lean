/-! ===== the classes of the whole system, in one order, and the array classes ===== -/
abbrev kCL : List vw_C := [(RX4, TX4, 62), (RX1, TX1, 14), (RX2, TX2, 6), (RX3, TX3, 6), (RX5, TX5, 14), (RX6, TX6, 7), (RX7, TX7, 2), (RX8, TX8, 1), (RX9, TX9, 1), (RX10, TX10, 1), (RJ2, TJ2, 3), (RJ14, TJ14, 4), (RJ19, TJ19, 1), (RJ20, TJ20, 6), (RJ6, TJ6, 6)]
abbrev kTY (dT : Nat → ClassId) : List (ClassId × FieldType) := [(dT 0, .int), (dT 1, .boolean), (dT 2, .byte), (dT 3, .object "java/lang/Object"), (dT 4, .array .int), (dT 5, .object "java/lang/String"), (dT 6, .long)]
abbrev kK (G : va_G) (dT : Nat → ClassId) (U : State) : Prop := va_K G kCL (kTY dT) U
/-! ===== partial functions: a loop as the function that it computes ===== -/
theorem o_bind {α β : Type} {o : Option α} {k : α → Option β} {z : β} (h : o.bind k = some z) : ∃ r, o = some r ∧ k r = some z := by
  cases o with
  | none => cases h
  | some r => exact ⟨r, rfl, h⟩
theorem o_t {α : Type} {c : Prop} {i : Decidable c} {a b z : α} (h : @ite α c i a b = z) (hc : c) : a = z := by rwa [if_pos hc] at h
theorem o_f {α : Type} {c : Prop} {i : Decidable c} {a b z : α} (h : @ite α c i a b = z) (hc : ¬ c) : b = z := by rwa [if_neg hc] at h
def o_it {σ ρ : Type} (step : σ → Option (σ ⊕ ρ)) : Nat → σ → Option ρ
  | 0, _ => none
  | n + 1, s => (step s).bind fun x => match x with
    | .inl s' => o_it step n s'
    | .inr r => some r
theorem o_it_mono {σ ρ : Type} {step : σ → Option (σ ⊕ ρ)} : ∀ (n : Nat) (s : σ) (r : ρ), o_it step n s = some r → ∀ m, n ≤ m → o_it step m s = some r := by
  intro n
  induction n with
  | zero => intro s r h; cases h
  | succ n ih =>
    intro s r h m hm
    cases m with
    | zero => omega
    | succ m =>
      unfold o_it at h ⊢
      obtain ⟨x, h1, h2⟩ := o_bind h
      rw [h1, Option.bind_some]
      cases x with
      | inl s' => exact ih s' r h2 m (by omega)
      | inr r' => exact h2
/-- what a loop comes to (none: it fails, or never ends) -/
noncomputable def o_loop {σ ρ : Type} (step : σ → Option (σ ⊕ ρ)) (s : σ) : Option ρ :=
  @dite (Option ρ) (∃ r, ∃ n, o_it step n s = some r) (Classical.propDecidable _) (fun h => some (Classical.choose h)) (fun _ => none)
theorem o_loop_iff {σ ρ : Type} {step : σ → Option (σ ⊕ ρ)} {s : σ} {r : ρ} : o_loop step s = some r ↔ ∃ n, o_it step n s = some r := by
  unfold o_loop
  constructor
  · intro h
    split at h
    · next hx =>
      obtain ⟨n, hn⟩ := Classical.choose_spec hx
      cases h
      exact ⟨n, hn⟩
    · cases h
  · rintro ⟨n, hn⟩
    have hx : ∃ r, ∃ n, o_it step n s = some r := ⟨r, n, hn⟩
    rw [dif_pos hx]
    obtain ⟨m, hm⟩ := Classical.choose_spec hx
    have h1 := o_it_mono n s r hn (max n m) (Nat.le_max_left _ _)
    have h2 := o_it_mono m s _ hm (max n m) (Nat.le_max_right _ _)
    exact h2.symm.trans h1
/-- a loop, once around -/
theorem o_loop_eq {σ ρ : Type} (step : σ → Option (σ ⊕ ρ)) (s : σ) : o_loop step s = (step s).bind fun x => match x with
    | .inl s' => o_loop step s'
    | .inr r => some r := by
  have key : ∀ r, o_loop step s = some r ↔ ((step s).bind fun x => match x with
    | .inl s' => o_loop step s'
    | .inr r => some r) = some r := by
    intro r
    rw [o_loop_iff]
    constructor
    · rintro ⟨n, hn⟩
      cases n with
      | zero => cases hn
      | succ n =>
        unfold o_it at hn
        obtain ⟨x, h1, h2⟩ := o_bind hn
        rw [h1, Option.bind_some]
        cases x with
        | inl s' => exact o_loop_iff.mpr ⟨n, h2⟩
        | inr r' => exact h2
    · intro h
      obtain ⟨x, h1, h2⟩ := o_bind h
      cases x with
      | inl s' =>
        obtain ⟨n, hn⟩ := o_loop_iff.mp h2
        exact ⟨n + 1, by unfold o_it; rw [h1, Option.bind_some]; exact hn⟩
      | inr r' => exact ⟨1, by unfold o_it; rw [h1, Option.bind_some]; exact h2⟩
  cases h : o_loop step s with
  | some r => exact ((key r).mp h).symm
  | none =>
    cases h2 : ((step s).bind fun x => match x with
      | .inl s' => o_loop step s'
      | .inr r => some r) with
    | none => rfl
    | some r => rw [(key r).mpr h2] at h; cases h
/-- the walk of a loop: what holds at its head whenever it comes to r -/
theorem o_rec {σ ρ : Type} {step : σ → Option (σ ⊕ ρ)} {r : ρ} {P : σ → Prop} (H : ∀ (s : σ) (x : σ ⊕ ρ), step s = some x → (∀ s', Sum.inl s' = x → P s') → (∀ r', Sum.inr r' = x → r' = r) → P s) : ∀ s, o_loop step s = some r → P s := by
  intro s h
  obtain ⟨n, hn⟩ := o_loop_iff.mp h
  clear h
  induction n generalizing s with
  | zero => cases hn
  | succ n ih =>
    unfold o_it at hn
    obtain ⟨x, h1, h2⟩ := o_bind hn
    refine H s x h1 (fun s' e => ?_) (fun r' e => ?_)
    · subst e
      exact ih s' h2
    · subst e
      exact Option.some.inj h2
theorem o_in {α : Type} {a b : α} (h : some a = some b) : a = b := Option.some.inj h
