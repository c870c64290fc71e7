/-! ===== office: the reference's side, whole ===== -/
section EXD
variable {T : Nat → Nat} {n lo hi : Nat}
/-- an expression asks for values from lo to hi alone -/
def ExD (lo hi : Nat) (E : EX) : Prop := ∀ f g : Nat → Int32, (∀ k, lo ≤ k → k ≤ hi → f k = g k) → E f = E g
def SpD (lo hi : Nat) (X : Nat → ER) : Prop := ∀ b b1 E, X b = .inl (b1, E) → ExD lo hi E
theorem spPart_d {X : Nat → ER} (hX : SpD lo hi X) : SpD lo hi (spPart T n lo hi X) := by
  intro b b1 E h
  unfold spPart at h
  split at h
  · split at h
    · cases h
      intro f g _
      rfl
    · cases h
  · split at h
    · cases e : X (nxb T n b) with
      | inr z => rw [e] at h; cases h
      | inl z =>
        obtain ⟨b2, E2⟩ := z
        rw [e] at h
        dsimp only at h
        split at h
        · cases h
          exact hX _ _ _ e
        · cases h
    · split at h
      · split at h
        · split at h
          · next k hk hr =>
            cases h
            intro f g hfg
            exact hfg _ hr.1 hr.2
          · cases h
        · cases h
      · cases h
theorem spL_d {op : Nat → Option Nat} {X : Nat → ER} (hX : SpD lo hi X) : ∀ f b E b1 E1, ExD lo hi E → spL T n op X f b E = .inl (b1, E1) → ExD lo hi E1 := by
  intro f
  induction f with
  | zero => intro b E b1 E1 _ h; cases h
  | succ f ih =>
    intro b E b1 E1 hE h
    unfold spL at h
    cases eo : op b with
    | none =>
      rw [eo] at h
      cases h
      exact hE
    | some o =>
      rw [eo] at h
      dsimp only at h
      cases e : X (nxb T n b) with
      | inr z => rw [e] at h; cases h
      | inl z =>
        obtain ⟨b2, E2⟩ := z
        rw [e] at h
        have h2 := hX _ _ _ e
        exact ih b2 _ b1 E1 (fun f g hfg => by
          rw [hE f g hfg, h2 f g hfg]) h
theorem spC_d {op : Nat → Option Nat} {X : Nat → ER} (hX : SpD lo hi X) : SpD lo hi (spC T n op X) := by
  intro b b1 E h
  unfold spC at h
  cases e : X b with
  | inr z => rw [e] at h; cases h
  | inl z =>
    obtain ⟨b2, E2⟩ := z
    rw [e] at h
    exact spL_d hX 701 b2 E2 b1 E (hX _ _ _ e) h
theorem ntE_d {E : EX} (hE : ExD lo hi E) : ∀ k, ExD lo hi (ntE E k) := by
  intro k
  induction k with
  | zero => exact hE
  | succ k ih =>
    intro f g hfg
    show (if ntE E k f = 0 then (1 : Int32) else 0) = if ntE E k g = 0 then 1 else 0
    rw [ih f g hfg]
theorem spNot_d {Y : Nat → ER} (hY : SpD lo hi Y) : SpD lo hi (spNot T n Y) := by
  intro b b1 E h
  unfold spNot at h
  cases e0 : spN T n 8 0 b with
  | inr z => rw [e0] at h; cases h
  | inl z =>
    obtain ⟨b2, k⟩ := z
    rw [e0] at h
    dsimp only at h
    cases e : Y b2 with
    | inr z => rw [e] at h; cases h
    | inl z =>
      obtain ⟨b3, E1⟩ := z
      rw [e] at h
      dsimp only at h
      cases eo : opR T n b3 with
      | none =>
        rw [eo] at h
        cases h
        exact ntE_d (hY _ _ _ e) k
      | some o =>
        rw [eo] at h
        dsimp only at h
        cases e6 : Y (nxb T n b3) with
        | inr z => rw [e6] at h; cases h
        | inl z =>
          obtain ⟨b4, E2⟩ := z
          rw [e6] at h
          cases h
          have h1 := hY _ _ _ e
          have h2 := hY _ _ _ e6
          exact ntE_d (fun f g hfg => by
            rw [h1 f g hfg, h2 f g hfg]) k
theorem spX_d : ∀ d a, SpD lo hi (spX T n lo hi d a) := by
  intro d
  induction d with
  | zero => intro a b b1 E h; cases h
  | succ d ih =>
    intro a b b1 E h
    unfold spX at h
    split at h
    · split at h
      · exact spC_d (spC_d (spNot_d (spC_d (spC_d (spPart_d (ih (a + 1))))))) b b1 E h
      · cases h
    · cases h
/-- both expressions of an office ask for what there is -/
def OxD (P : PO) : Prop := (∀ E, pY P = some E → ExD 4 8 E) ∧ ∀ E, pZ P = some E → ExD 0 5 E
theorem lnAny_d {S S' : OS} {b b1 : Nat} (hS : OxD S.1) (h : lnAny T n S b = .inl (S', b1)) : OxD S'.1 := by
  unfold lnAny at h
  split at h
  · unfold lnSlack at h
    split at h
    · cases h
    · split at h
      · cases h
      · cases h; exact hS
  · split at h
    · unfold lnLays at h
      cases eY : pY S.1 with
      | some E => rw [eY] at h; cases h
      | none =>
        rw [eY] at h
        dsimp only at h
        cases e : spX T n 4 8 9 0 (nxb T n b) with
        | inr z => rw [e] at h; cases h
        | inl z =>
          obtain ⟨b2, E⟩ := z
          rw [e] at h
          cases h
          refine ⟨fun E' hE' => ?_, hS.2⟩
          have : E = E' := Option.some.inj hE'
          rw [← this]
          exact spX_d 9 0 _ _ _ e
    · split at h
      · unfold lnMoulds at h
        cases eZ : pZ S.1 with
        | some E => rw [eZ] at h; cases h
        | none =>
          rw [eZ] at h
          dsimp only at h
          cases e : spX T n 0 5 9 0 (nxb T n b) with
          | inr z => rw [e] at h; cases h
          | inl z =>
            obtain ⟨b2, E⟩ := z
            rw [e] at h
            cases h
            refine ⟨hS.1, fun E' hE' => ?_⟩
            have : E = E' := Option.some.inj hE'
            rw [← this]
            exact spX_d 9 0 _ _ _ e
      · split at h
        · unfold lnSheet at h
          split at h
          · split at h
            · cases h
            · split at h
              · cases h
              · split at h
                · cases h
                · cases h; exact hS
          · cases h
        · split at h
          · unfold lnClerk at h
            split at h
            · split at h
              · split at h
                · cases h
                · cases h; exact hS
              · cases h
            · cases h
          · split at h
            · unfold lnWord at h
              split at h
              · split at h
                · cases h
                · split at h
                  · cases h
                  · split at h
                    · cases h
                    · cases h; exact hS
              · cases h
            · cases h
theorem spRead_d : ∀ f (S S' : OS) b, OxD S.1 → spRead T n f S b = .inl S' → OxD S'.1 := by
  intro f
  induction f with
  | zero => intro S S' b _ h; cases h
  | succ f ih =>
    intro S S' b hS h
    unfold spRead at h
    split at h
    · cases h; exact hS
    · cases e : spLine T n S b with
      | inr z => rw [e] at h; cases h
      | inl z =>
        obtain ⟨S1, b1⟩ := z
        rw [e] at h
        dsimp only at h
        refine ih S1 S' b1 ?_ h
        unfold spLine at e
        cases e2 : lnAny T n S b with
        | inr z => rw [e2] at e; cases e
        | inl z =>
          obtain ⟨S2, b2⟩ := z
          rw [e2] at e
          dsimp only at e
          split at e
          · cases e
            exact lnAny_d hS e2
          · cases e
theorem OxD_0 : OxD P0 := ⟨(fun E h => by cases h), (fun E h => by cases h)⟩
theorem ExD_L {E : EX} (h : ExD 4 8 E) : (fun f => E (cnL f)) = E := by
  funext f
  apply h
  intro k h1 h2
  have : k = 4 ∨ k = 5 ∨ k = 6 ∨ k = 7 ∨ k = 8 := by omega
  rcases this with rfl | rfl | rfl | rfl | rfl <;> rfl
theorem ExD_M {E : EX} (h : ExD 0 5 E) : (fun f => E (cnM f)) = E := by
  funext f
  apply h
  intro k h1 h2
  have : k = 0 ∨ k = 1 ∨ k = 2 ∨ k = 3 ∨ k = 4 ∨ k = 5 := by omega
  rcases this with rfl | rfl | rfl | rfl | rfl | rfl <;> rfl
end EXD
section MOFFICE
variable {T : Nat → Nat} {n : Nat} {σ σ' : MS} {S : ST}
/-- a new office -/
def wOF (S : ST) (Q : OS) : ST := (Q.1, Q.2.1, (0, fun _ => Q.2.1), (0, fun _ _ => 0), none, zT S, 0, -1, zR S)
/-- a text that is refused -/
def wER (S : ST) (p : Nat) : ST := (S.1, S.2.1, S.2.2.1, S.2.2.2.1, S.2.2.2.2.1, S.2.2.2.2.2.1, 0, i3 p, fun i => if i = 0 then zR S 0 + 1 else zR S i)
theorem WFZ_of {Q : OS} (hZ : WFZ S) (hQ : WFL Q) : WFZ (wOF S Q) := by
  obtain ⟨h1, h2, h3, h4, -, h6⟩ := hQ
  refine ⟨h1, ⟨⟨h2, fun c hc => ?_⟩, ?_⟩, ⟨Nat.zero_le _, fun i hi => absurd hi (Nat.not_lt_zero _)⟩, ⟨Nat.zero_le _, fun i hi => absurd hi (Nat.not_lt_zero _)⟩, (fun w a e h => by cases h), hZ.2.2.2.2.2.1, Nat.zero_le _⟩
  · show Q.2.1 (28 + c) < 2 ^ pQ' Q.1
    rw [h3 c hc]
    exact Nat.two_pow_pos _
  · show Q.2.1 0 ≤ 999
    rw [h4]
    decide
theorem WFZ_er {p : Nat} (hZ : WFZ S) : WFZ (wER S p) := ⟨hZ.1, hZ.2.1, hZ.2.2.1, hZ.2.2.2.1, hZ.2.2.2.2.1, hZ.2.2.2.2.2.1, Nat.zero_le _⟩
theorem M_row_copy (σ : MS) : ∃ σ', o_loop M_office_L268 (0, σ) = some σ' ∧ (∀ k, mf σ' k = mf σ k) ∧ (∀ j, j ≠ 44 → ma σ' j = ma σ j) ∧ ∀ i, i < 34 → ma σ' 44 i = ma σ 40 i := by
  obtain ⟨r, r1, r2⟩ := o_inv0 (step := M_office_L268) (fun k (t : Int32 × MS) => t.1 = i3 k ∧ (∀ q, mf t.2 q = mf σ q) ∧ (∀ j, j ≠ 44 → ma t.2 j = ma σ j) ∧ ∀ i, i < k → ma t.2 44 i = ma σ 40 i) (fun r => (∀ k, mf r k = mf σ k) ∧ (∀ j, j ≠ 44 → ma r j = ma σ j) ∧ ∀ i, i < 34 → ma r 44 i = ma σ 40 i) 34 (fun k t hk hP => by
    obtain ⟨i, τ⟩ := t
    obtain ⟨rfl, h1, h2, h3⟩ := hP
    dsimp only at *
    refine ⟨(i3 (k + 1), sa τ 44 k (ma σ 40 k)), ?_, rfl, fun q => h1 q, fun j hj => by rw [ma_sb hj]; exact h2 j hj, fun i hi => ?_⟩
    · unfold M_office_L268
      dsimp only
      rw [if_pos ((i3_ltl (c := 34) (n := 34) rfl (by omega) (by decide)).mpr hk), ald_at rfl (show k < mlen 40 from hk) (show ma τ 40 k = ma σ 40 k by rw [h2 40 (by decide)]), Option.bind_some, ast_i3 (show k < mlen 44 by show k < 68; omega), Option.bind_some, i3_succ]
    · dsimp only
      rw [ma_saq]
      by_cases ei : i = k
      · rw [if_pos ei, ei]
      · rw [if_neg ei]; exact h3 i (by omega)) (fun t hP => by
    obtain ⟨i, τ⟩ := t
    obtain ⟨rfl, h1, h2, h3⟩ := hP
    refine ⟨τ, ?_, h1, h2, h3⟩
    unfold M_office_L268
    dsimp only
    rw [if_neg (by decide)]) (0, σ) ⟨rfl, fun _ => rfl, fun _ _ => rfl, fun i hi => absurd hi (Nat.not_lt_zero _)⟩
  exact ⟨r, r1, r2⟩
theorem MO_cd {x : Int32} {c : Nat} {Y : Option EX} {cn : (Nat → Int32) → (Nat → Int32)} (h : CdO σ x c Y) (hc : c ≤ 1400) (ha : ∀ i, i < 1400 → ma σ' 11 i = ma σ 41 i) (hd : ∀ E, Y = some E → (fun f => E (cn f)) = E) : MO σ' x Y cn := by
  unfold CdO at h
  unfold MO
  split at h
  · exact h
  · next E =>
    obtain ⟨p, p1, h1, h2, h3, h4⟩ := h
    have hl := h2.1
    dsimp only
    rw [hd E rfl, h1]
    exact ⟨i3_m1 (by omega), Pus_MX h2 h3 (by omega) (fun q _ q2 => ha q (by omega))⟩
/-- the office's own part: what is taken over -/
theorem M_newOf {Q : OS} {b c : Nat} (hS : WFL Q) (hD : OxD Q.1) (hM : LM T n σ Q b c) : ∃ σ', ((pf σ 1 (mf σ 25)).bind fun s24 => (pf s24 2 (mf s24 26)).bind fun s25 => (pf s25 3 (mf s25 27)).bind fun s26 =>
      ((if (mf s26 28) = (-1) then (some 0) else (some (mf s26 28)) : Option Int32)).bind fun r27 => (pf s26 4 r27).bind fun s28 => (pf s28 5 (mf s28 29)).bind fun s29 => (pf s29 6 (mf s29 30)).bind fun s30 =>
      (M_copies s30 36 7).bind fun q31 => (M_copies q31 37 8).bind fun q32 => (M_copies q32 38 9).bind fun q33 => (M_copies q33 39 10).bind fun q34 => (M_copies q34 41 11).bind fun q35 => (o_loop M_office_L268 (0, q35)).bind fun r38 =>
      (pf r38 46 0).bind fun s39 => (pf s39 51 0).bind fun s40 => (pf s40 56 0).bind fun s41 => some ((0 : Int32), s41)) = some (0, σ') ∧
    ((mf σ' 1 = i3 (pN Q.1) ∧ mf σ' 2 = i3 (pM Q.1) ∧ mf σ' 3 = i3 (pQ' Q.1) ∧ mf σ' 4 = i3 (pS Q.1)) ∧ ((∀ c, c < pM Q.1 → ma σ' 8 c = i3 (pL Q.1 c)) ∧ (∀ c i, c < pM Q.1 → i < pL Q.1 c → ma σ' 7 (6 * c + i) = i3 (pR Q.1 c i)) ∧ (∀ i, i < pQ' Q.1 → ma σ' 9 i = i3 (pA Q.1 i)) ∧ (∀ i, i < pQ' Q.1 → ma σ' 10 i = i3 (pB Q.1 i))) ∧ MO σ' (mf σ' 5) (pY Q.1) cnL ∧ MO σ' (mf σ' 6) (pZ Q.1) cnM) ∧
    MRg (ma σ' 44) 0 Q.1 Q.2.1 ∧ mf σ' 46 = 0 ∧ mf σ' 51 = 0 ∧ mf σ' 56 = 0 ∧ (∀ k, k = 0 ∨ (7 ≤ k ∧ k ≤ 45) → mf σ' k = mf σ k) ∧ ∀ j, 11 < j → j ≠ 44 → ma σ' j = ma σ j := by
  obtain ⟨P, w, sl⟩ := Q
  obtain ⟨hP, hW, -, -, h0, -⟩ := hS
  obtain ⟨hL, ⟨h14, h31, hc⟩, ⟨g25, g26, g27, g28⟩, ⟨a1, a2, a3, a4⟩, r, y, z⟩ := hM
  dsimp only at *
  have hbn := hL.2.1
  have hn := hL.1.2.1
  have hQ8 := hP.2.2.2.1
  have e28 : (if (if sl = true then i3 (pS P) else -1) = (-1 : Int32) then (some 0) else (some (if sl = true then i3 (pS P) else -1)) : Option Int32) = some (i3 (pS P)) := by
    cases sl with
    | true => rw [if_pos rfl, if_neg (i3_m1 (by omega))]
    | false =>
      rw [show (if false = true then i3 (pS P) else -1 : Int32) = -1 from if_neg (by decide), if_pos rfl, h0 rfl]
      rfl
  obtain ⟨s30, hs30⟩ : ∃ s30, sf (sf (sf (sf (sf (sf σ 1 (i3 (pN P))) 2 (i3 (pM P))) 3 (i3 (pQ' P))) 4 (i3 (pS P))) 5 (mf σ 29)) 6 (mf σ 30) = s30 := ⟨_, rfl⟩
  have m30 : ∀ k, k = 0 ∨ 7 ≤ k → mf s30 k = mf σ k := fun k hk => by rw [← hs30, mf_sfn (by omega), mf_sfn (by omega), mf_sfn (by omega), mf_sfn (by omega), mf_sfn (by omega), mf_sfn (by omega)]
  have n30 : ∀ j, ma s30 j = ma σ j := fun j => by rw [← hs30]; rfl
  obtain ⟨q31, b1, b2, b3, b4⟩ := M_copies_eq (σ := s30) 36 7 (by decide) (by decide)
  obtain ⟨q32, c1, c2, c3, c4⟩ := M_copies_eq (σ := q31) 37 8 (by decide) (by decide)
  obtain ⟨q33, d1, d2, d3, d4⟩ := M_copies_eq (σ := q32) 38 9 (by decide) (by decide)
  obtain ⟨q34, e1, e2, e3, e4⟩ := M_copies_eq (σ := q33) 39 10 (by decide) (by decide)
  obtain ⟨q35, f1, f2, f3, f4⟩ := M_copies_eq (σ := q34) 41 11 (by decide) (by decide)
  obtain ⟨r38, k1, k2, k3, k4⟩ := M_row_copy q35
  have mf35 : ∀ k, mf r38 k = mf s30 k := fun k => by
    rw [k2 k]
    unfold mf
    rw [f2, e2, d2, c2, b2]
  have ma35 : ∀ j, 11 < j → j ≠ 44 → ma r38 j = ma σ j := fun j h1 h2 => by rw [k3 j h2, f3 j (by omega), e3 j (by omega), d3 j (by omega), c3 j (by omega), b3 j (by omega), n30]
  have a7 : ∀ i, i < 36 → ma r38 7 i = ma σ 36 i := fun i hi => by rw [k3 7 (by decide), f3 7 (by decide), e3 7 (by decide), d3 7 (by decide), c3 7 (by decide), b4 i hi, n30]
  have a8 : ∀ i, i < 6 → ma r38 8 i = ma σ 37 i := fun i hi => by rw [k3 8 (by decide), f3 8 (by decide), e3 8 (by decide), d3 8 (by decide), c4 i hi, b3 37 (by decide), n30]
  have a9 : ∀ i, i < 12 → ma r38 9 i = ma σ 38 i := fun i hi => by rw [k3 9 (by decide), f3 9 (by decide), e3 9 (by decide), d4 i hi, c3 38 (by decide), b3 38 (by decide), n30]
  have a10 : ∀ i, i < 12 → ma r38 10 i = ma σ 39 i := fun i hi => by rw [k3 10 (by decide), f3 10 (by decide), e4 i hi, d3 39 (by decide), c3 39 (by decide), b3 39 (by decide), n30]
  have a11 : ∀ i, i < 1400 → ma r38 11 i = ma σ 41 i := fun i hi => by rw [k3 11 (by decide), f4 i hi, e3 41 (by decide), d3 41 (by decide), c3 41 (by decide), b3 41 (by decide), n30]
  have a44 : ∀ i, i < 34 → ma r38 44 i = ma σ 40 i := fun i hi => by rw [k4 i hi, f3 40 (by decide), e3 40 (by decide), d3 40 (by decide), c3 40 (by decide), b3 40 (by decide), n30]
  have fin : ∀ k, k ≠ 46 → k ≠ 51 → k ≠ 56 → mf (sf (sf (sf r38 46 0) 51 0) 56 0) k = mf s30 k := fun k x1 x2 x3 => by rw [mf_sfn x3, mf_sfn x2, mf_sfn x1, mf35]
  refine ⟨sf (sf (sf r38 46 0) 51 0) 56 0, ?_, ⟨⟨?_, ?_, ?_, ?_⟩, ⟨fun c hc => ?_, fun c i hc hi => ?_, fun i hi => ?_, fun i hi => ?_⟩, ?_, ?_⟩, ?_, ?_, ?_, mf_sfe, fun k hk => ?_, fun j h1 h2 => ma35 j h1 h2⟩
  · rw [g25, pf_e, Option.bind_some, mf_sfn (by decide), g26, pf_e, Option.bind_some, mf_sfn (by decide), mf_sfn (by decide), g27, pf_e, Option.bind_some, mf_sfn (by decide), mf_sfn (by decide), mf_sfn (by decide), g28, e28, Option.bind_some, pf_e, Option.bind_some, mf_sfn (by decide), mf_sfn (by decide), mf_sfn (by decide), mf_sfn (by decide), pf_e, Option.bind_some, mf_sfn (by decide), mf_sfn (by decide), mf_sfn (by decide), mf_sfn (by decide), mf_sfn (by decide), pf_e, Option.bind_some, hs30, b1, Option.bind_some, c1, Option.bind_some, d1, Option.bind_some, e1, Option.bind_some, f1, Option.bind_some, k1, Option.bind_some, pf_e, Option.bind_some, pf_e, Option.bind_some, pf_e, Option.bind_some]
  · rw [fin 1 (by decide) (by decide) (by decide), ← hs30, mf_sfn (by decide), mf_sfn (by decide), mf_sfn (by decide), mf_sfn (by decide), mf_sfn (by decide), mf_sfe]
  · rw [fin 2 (by decide) (by decide) (by decide), ← hs30, mf_sfn (by decide), mf_sfn (by decide), mf_sfn (by decide), mf_sfn (by decide), mf_sfe]
  · rw [fin 3 (by decide) (by decide) (by decide), ← hs30, mf_sfn (by decide), mf_sfn (by decide), mf_sfn (by decide), mf_sfe]
  · rw [fin 4 (by decide) (by decide) (by decide), ← hs30, mf_sfn (by decide), mf_sfn (by decide), mf_sfe]
  · show ma r38 8 c = _
    have := hP.2.1
    rw [a8 c (by omega)]; exact a1 c hc
  · show ma r38 7 (6 * c + i) = _
    have h6 := (hP.2.2.2.2.2.1 c hc).2
    have := hP.2.1
    rw [a7 _ (by omega)]; exact a2 c i hc hi
  · show ma r38 9 i = _
    have := hP.2.2.1
    rw [a9 i (by omega)]; exact a3 i hi
  · show ma r38 10 i = _
    have := hP.2.2.1
    rw [a10 i (by omega)]; exact a4 i hi
  · rw [fin 5 (by decide) (by decide) (by decide), ← hs30, mf_sfn (by decide), mf_sfe]
    exact MO_cd y (by omega) a11 (fun E hE => ExD_L (hD.1 E hE))
  · rw [fin 6 (by decide) (by decide) (by decide), ← hs30, mf_sfe]
    exact MO_cd z (by omega) a11 (fun E hE => ExD_M (hD.2 E hE))
  · exact MRg_gx hP.1 hP.2.1 r a44
  · rw [mf_sfn (by decide), mf_sfn (by decide), mf_sfe]
  · rw [mf_sfn (by decide), mf_sfe]
  · rw [fin k (by omega) (by omega) (by omega), m30 k (by omega)]
/-- the start of the reading -/
noncomputable def offS (σ : MS) (n : Nat) : MS := sf (sa (sf (sf (sf (sf (sf (sf (sf (sf (sf (sf (sf (sf σ 0 0) 13 0) 15 (-1)) 14 0) 17 (i3 n)) 18 0) 25 0) 26 0) 27 0) 28 (-1)) 29 (-1)) 30 (-1)) 40 0 0) 31 0
theorem M_office_no {x : Int32} (hx : ¬ (¬ x < 0 ∧ x.toNatClampNeg ≤ zt S)) (hM : RM σ S) (hZ : WFZ S) : M_office σ x = some (0, sf (sf σ 0 0) 0 1) := by
  have h13 := hM.2.2.2.2.2.1.1
  have ht := hZ.2.2.2.2.2.2
  have g13 : mf (sf σ 0 0) 13 = i3 (zt S) := (mf_sfn (by decide)).trans h13
  unfold M_office
  have e : (if x < 0 then (some 0) else (if x ≤ i3 (zt S) then (some 1) else (some 0)) : Option Int32) = some (bI false) := by
    by_cases e1 : x < 0
    · rw [if_pos e1]; rfl
    · have e2 : ¬ x.toNatClampNeg ≤ zt S := fun y => hx ⟨e1, y⟩
      rw [if_neg e1, if_neg]
      · rfl
      · intro y
        rw [← i3_of e1, i3_le (i3_ofl x) (by omega)] at y
        exact e2 y
  rw [pf_e, Option.bind_some, g13, e, Option.bind_some, M_right_no (σ := sf σ 0 0) mf_sf0 (by decide), Option.bind_some, if_pos rfl]
theorem M_office_st (hn : n ≤ zt S) (hM : RM σ S) (hZ : WFZ S) : M_office σ (i3 n) = (M_goes (offS σ n)).bind fun q18 => (o_loop M_office_L103 q18).bind fun r21 => (M_isGood r21).bind fun q22 => if q22 = 0 then ((ald r21 16 0).bind fun v46 => (ast r21 16 0 (v46 + 1)).bind fun s47 => some ((mf s47 14), s47)) else ((pf r21 1 (mf r21 25)).bind fun s24 => (pf s24 2 (mf s24 26)).bind fun s25 => (pf s25 3 (mf s25 27)).bind fun s26 =>
      ((if (mf s26 28) = (-1) then (some 0) else (some (mf s26 28)) : Option Int32)).bind fun r27 => (pf s26 4 r27).bind fun s28 => (pf s28 5 (mf s28 29)).bind fun s29 => (pf s29 6 (mf s29 30)).bind fun s30 =>
      (M_copies s30 36 7).bind fun q31 => (M_copies q31 37 8).bind fun q32 => (M_copies q32 38 9).bind fun q33 => (M_copies q33 39 10).bind fun q34 => (M_copies q34 41 11).bind fun q35 => (o_loop M_office_L268 (0, q35)).bind fun r38 =>
      (pf r38 46 0).bind fun s39 => (pf s39 51 0).bind fun s40 => (pf s40 56 0).bind fun s41 => some ((0 : Int32), s41)) := by
  have h13 := hM.2.2.2.2.2.1.1
  have ht := hZ.2.2.2.2.2.2
  have g13 : mf (sf σ 0 0) 13 = i3 (zt S) := (mf_sfn (by decide)).trans h13
  unfold M_office
  have e : (if i3 n < 0 then (some 0) else (if i3 n ≤ i3 (zt S) then (some 1) else (some 0)) : Option Int32) = some (bI true) := by
    rw [if_neg (i3_nn (by omega)), if_pos ((i3_le (by omega) (by omega)).mpr hn)]
    rfl
  rw [pf_e, Option.bind_some, g13, e, Option.bind_some, M_right_ok (σ := sf σ 0 0) mf_sf0, Option.bind_some, if_neg (show ¬ (1 : Int32) = 0 by decide)]
  simp only [pf_e, ob_s]
  rw [show ast (sf (sf (sf (sf (sf (sf (sf (sf (sf (sf (sf (sf σ 0 0) 13 0) 15 (-1)) 14 0) 17 (i3 n)) 18 0) 25 0) 26 0) 27 0) 28 (-1)) 29 (-1)) 30 (-1)) 40 0 0 = some (sa (sf (sf (sf (sf (sf (sf (sf (sf (sf (sf (sf (sf σ 0 0) 13 0) 15 (-1)) 14 0) 17 (i3 n)) 18 0) 25 0) 26 0) 27 0) 28 (-1)) 29 (-1)) 30 (-1)) 40 0 0) from ast_i3 (n := 0) (show 0 < mlen 40 by decide), ob_s]
  rfl
theorem offS_f {k : Nat} (h : k ≠ 0 ∧ k ≠ 13 ∧ k ≠ 15 ∧ k ≠ 14 ∧ k ≠ 17 ∧ k ≠ 18 ∧ k ≠ 25 ∧ k ≠ 26 ∧ k ≠ 27 ∧ k ≠ 28 ∧ k ≠ 29 ∧ k ≠ 30 ∧ k ≠ 31) : mf (offS σ n) k = mf σ k := by
  obtain ⟨h0, h1, h2, h3, h4, h5, h6, h7, h8, h9, h10, h11, h12⟩ := h
  unfold offS
  rw [mf_sfn h12]
  show mf (sf (sf (sf (sf (sf (sf (sf (sf (sf (sf (sf (sf σ 0 0) 13 0) 15 (-1)) 14 0) 17 (i3 n)) 18 0) 25 0) 26 0) 27 0) 28 (-1)) 29 (-1)) 30 (-1)) k = _
  rw [mf_sfn h11, mf_sfn h10, mf_sfn h9, mf_sfn h8, mf_sfn h7, mf_sfn h6, mf_sfn h5, mf_sfn h4, mf_sfn h3, mf_sfn h2, mf_sfn h1, mf_sfn h0]
theorem offS_a {j : Nat} (h : j ≠ 40) : ma (offS σ n) j = ma σ j := by
  unfold offS
  show ma (sa _ 40 0 0) j = _
  rw [ma_sb h]
  rfl
theorem offS_v : mf (offS σ n) 0 = 0 ∧ mf (offS σ n) 13 = 0 ∧ mf (offS σ n) 15 = -1 ∧ mf (offS σ n) 14 = 0 ∧ mf (offS σ n) 17 = i3 n ∧ mf (offS σ n) 18 = 0 ∧ mf (offS σ n) 25 = 0 ∧ mf (offS σ n) 26 = 0 ∧ mf (offS σ n) 27 = 0 ∧ mf (offS σ n) 28 = -1 ∧ mf (offS σ n) 29 = -1 ∧ mf (offS σ n) 30 = -1 ∧ mf (offS σ n) 31 = 0 ∧ ma (offS σ n) 40 0 = 0 := by
  unfold offS
  refine ⟨?_, ?_, ?_, ?_, ?_, ?_, ?_, ?_, ?_, ?_, ?_, ?_, ?_, ?_⟩
  all_goals simp [mf, sf, sa, ma, upd]
/-- the reference reads a text: a new office, or what is wrong -/
theorem M_office_eq (hn : n ≤ zt S) (hM : RM σ S) (hZ : WFZ S) : match spOff (zT S) n with
    | .inl Q => WFL Q ∧ ∃ σ', M_office σ (i3 n) = some (0, σ') ∧ mf σ' 0 = 0 ∧ RM σ' (wOF S Q)
    | .inr (k, p) => (1 ≤ k ∧ k ≤ 9) ∧ ∃ σ', M_office σ (i3 n) = some (i3 k, σ') ∧ mf σ' 0 = 0 ∧ RM σ' (wER S p) := by
  have ht := hZ.2.2.2.2.2.2
  have hT2 := hZ.2.2.2.2.2.1
  obtain ⟨m1, m2, m3, m4, m5, ⟨m6, m7⟩, m8, m9⟩ := hM
  obtain ⟨v0, v13, v15, v14, v17, v18, v25, v26, v27, v28, v29, v30, v31, v40⟩ := offS_v (σ := σ) (n := n)
  have hTP : TPs (offS σ n) (zT S) n := ⟨v17, by omega, fun k hk => by rw [offS_a (by decide)]; exact m7 k hk, hT2⟩
  obtain ⟨s1, g1, g2, g3⟩ := M_goes_eq hTP (p := 0) v18 (Nat.zero_le _)
  have hLM : LM (zT S) n s1 (P0, fun _ => 0, false) (run isW (zT S) n 700 0) 0 := by
    have f : ∀ k, k < 18 ∨ 23 < k → mf s1 k = mf (offS σ n) k := g3.1
    refine ⟨g2, ⟨by rw [f 14 (by decide)]; exact v14, by rw [f 31 (by decide)]; exact v31, Nat.zero_le _⟩, ⟨by rw [f 25 (by decide)]; exact v25, by rw [f 26 (by decide)]; exact v26, by rw [f 27 (by decide)]; exact v27, by rw [f 28 (by decide)]; exact v28⟩, ⟨fun c hc => absurd hc (Nat.not_lt_zero _), fun c i hc => absurd hc (Nat.not_lt_zero _), fun i hi => absurd hi (Nat.not_lt_zero _), fun i hi => absurd hi (Nat.not_lt_zero _)⟩, ⟨by rw [g3.2]; exact v40, fun k hk => absurd hk (Nat.not_lt_zero _), fun k hk => absurd hk (Nat.not_lt_zero _), fun k hk => absurd hk (Nat.not_lt_zero _), fun k hk => absurd hk (Nat.not_lt_zero _)⟩, by rw [f 29 (by decide)]; exact v29, by rw [f 30 (by decide)]; exact v30⟩
  have hr := M_read_eq (T := zT S) (n := n) 701 (P0, fun _ => 0, false) (run isW (zT S) n 700 0) 0 s1 (by have := run_ge (g := isW) (T := zT S) (n := n) 700 0; omega) WFL_0 hLM
  have hD := spRead_d (T := zT S) (n := n) 701 (P0, fun _ => 0, false)
  have oz : Oz (offS σ n) s1 := Oz_lx g3
  unfold spOff
  rw [M_office_st hn ⟨m1, m2, m3, m4, m5, ⟨m6, m7⟩, m8, m9⟩ hZ, g1, Option.bind_some]
  cases e : spRead (zT S) n 701 (P0, fun _ => 0, false) (run isW (zT S) n 700 0) with
  | inr z =>
    obtain ⟨k, p⟩ := z
    rw [e] at hr
    obtain ⟨s2, x1, x2⟩ := hr
    obtain ⟨⟨y1, y2, y3, y4⟩, y5⟩ := Bd_pre oz x2
    have ef : ∀ k, k < 13 ∧ k ≠ 0 ∨ k = 16 ∨ 35 < k → mf s2 k = mf σ k := fun k hk => (y5.1 k (by omega)).trans (offS_f (by omega))
    have ea : ∀ j, j < 36 ∨ 43 < j → ma s2 j = ma σ j := fun j hj => (y5.2 j hj).trans (offS_a (by omega))
    have e16 : ast s2 16 0 (ma s2 16 0 + 1) = some (sa s2 16 0 (ma s2 16 0 + 1)) := ast_i3 (n := 0) (show 0 < mlen 16 by decide)
    refine ⟨⟨y2, y3⟩, sa s2 16 0 (ma s2 16 0 + 1), ?_, ?_, ?_⟩
    · rw [x1, Option.bind_some, isGood_n (Bd_bad x2), Option.bind_some, if_pos rfl, ald_at (x := 0) (n := 0) rfl (show 0 < mlen 16 by decide) rfl, Option.bind_some, e16, Option.bind_some, show mf (sa s2 16 0 (ma s2 16 0 + 1)) 14 = i3 k from y1]
    · show mf s2 0 = 0
      rw [y5.1 0 (by decide)]
      exact v0
    · have ha : ∀ j, j ≠ 16 → j < 36 ∨ 43 < j → ma (sa s2 16 0 (ma s2 16 0 + 1)) j = ma σ j := fun j h1 h2 => by rw [ma_sb h1]; exact ea j h2
      refine ⟨ME_of m1 (fun k k1 k2 => ef k (by omega)) (fun j j1 j2 => ha j (by omega) (by omega)) (by rw [ha 49 (by decide) (by decide)]), ?_, ?_, ?_, ?_, ⟨?_, fun k hk => ?_⟩, ?_, fun i hi => ?_⟩
      · rw [ha 44 (by decide) (by decide)]; exact m2
      · refine ⟨(ef 46 (by decide)).trans m3.1, fun i hi => ?_⟩
        rw [ha 45 (by decide) (by decide)]
        exact m3.2 i hi
      · refine ⟨(ef 51 (by decide)).trans m4.1, fun i j hi hj => ?_⟩
        rw [ha 52 (by decide) (by decide)]
        exact m4.2 i j hi hj
      · have f56 : mf (sa s2 16 0 (ma s2 16 0 + 1)) 56 = mf σ 56 := ef 56 (by decide)
        have f57 : mf (sa s2 16 0 (ma s2 16 0 + 1)) 57 = mf σ 57 := ef 57 (by decide)
        have f58 : mf (sa s2 16 0 (ma s2 16 0 + 1)) 58 = mf σ 58 := ef 58 (by decide)
        unfold IM AM HM at m5 ⊢
        rw [f56, f57, f58, ha 59 (by decide) (by decide), ha 60 (by decide) (by decide), ha 61 (by decide) (by decide)]
        exact m5
      · show mf s2 13 = i3 0
        rw [y5.1 13 (by decide)]
        exact v13
      · rw [ha 12 (by decide) (by decide)]
        exact m7 k hk
      · exact y4
      · rw [ma_saq]
        show _ = if i = 0 then zR S 0 + 1 else zR S i
        by_cases ei : i = 0
        · rw [if_pos ei, if_pos ei, ea 16 (by decide), m9 0 (by decide)]
        · rw [if_neg ei, if_neg ei, ea 16 (by decide), m9 i hi]
  | inl Q =>
    rw [e] at hr
    obtain ⟨hQ, s2, b', c', x1, x2, x3, x4⟩ := hr
    obtain ⟨σ', t1, t2, t3, t4, t5, t6, t7, t8⟩ := M_newOf hQ (hD Q _ OxD_0 e) x2
    have oz2 := Oz_trans oz x3
    have ef : ∀ k, k = 0 ∨ (7 ≤ k ∧ k < 13) ∨ k = 16 ∨ (35 < k ∧ k ≤ 45) → mf σ' k = mf (offS σ n) k := fun k hk => (t7 k (by omega)).trans (oz2.1 k (by omega))
    have ea : ∀ j, 11 < j → j < 36 ∨ 43 < j → j ≠ 44 → ma σ' j = ma σ j := fun j h1 h2 h3 => (t8 j h1 h3).trans ((oz2.2 j h2).trans (offS_a (by omega)))
    refine ⟨hQ, σ', ?_, ?_, ⟨⟨t2.1, t2.2.1, t2.2.2.1, t2.2.2.2, ?_⟩, t3, ⟨t4, fun i hi => absurd hi (Nat.not_lt_zero _)⟩, ⟨t5, fun i j hi => absurd hi (Nat.not_lt_zero _)⟩, t6, ⟨?_, fun k hk => ?_⟩, ?_, fun i hi => ?_⟩⟩
    · rw [x1, Option.bind_some, isGood_y x2.2.1.1, Option.bind_some, if_neg (by decide)]
      exact t1
    · rw [ef 0 (by decide)]; exact v0
    · rw [ea 49 (by decide) (by decide) (by decide)]; exact m1.2.2.2.2
    · rw [t7 13 (by decide), oz2.1 13 (by decide)]; exact v13
    · rw [ea 12 (by decide) (by decide) (by decide)]; exact m7 k hk
    · rw [t7 15 (by decide), x4, g3.1 15 (by decide)]; exact v15
    · rw [ea 16 (by decide) (by decide) (by decide)]; exact m9 i hi
end MOFFICE
