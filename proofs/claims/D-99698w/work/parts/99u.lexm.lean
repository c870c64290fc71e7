/-! ===== office: a token, by where it begins; the reference's side ===== -/
def sgn (c : Nat) : Bool := decide (c = 59) || decide (c = 40) || decide (c = 41) || decide (c = 43) || decide (c = 45) || decide (c = 42) || decide (c = 47) || decide (c = 60) || decide (c = 61)
/-- its kind: 0 end, 1 word, 2 number, 3 sign, 4 another one -/
def tkK (T : Nat → Nat) (n b : Nat) : Nat := if b < n then (if isL (T b) = true then 1 else if isD (T b) = true then 2 else if sgn (T b) = true then 3 else 4) else 0
/-- where it ends -/
def tkE (T : Nat → Nat) (n b : Nat) : Nat := if b < n then (if isL (T b) = true then run isL T n 700 b else if isD (T b) = true then run isD T n 700 b else b + 1) else b
/-- where the next one begins -/
def nxb (T : Nat → Nat) (n b : Nat) : Nat := run isW T n 700 (tkE T n b)
def vlu (T : Nat → Nat) (n b : Nat) : Nat := if tkK T n b = 2 then dv T b (tkE T n b - b) else 0
def pkw (T : Nat → Nat) (n b : Nat) : Int64 := if tkK T n b = 1 then pk T b (tkE T n b - b) else 0
section LEXM
variable {σ τ : MS} {T : Nat → Nat} {n b : Nat}
theorem run_1 {g : Nat → Bool} {p : Nat} (h : p < n) (hg : g (T p) = true) : p + 1 ≤ run g T n 700 p := by
  show p + 1 ≤ run g T n (699 + 1) p
  unfold run
  rw [if_pos ⟨h, hg⟩]
  exact run_ge 699 (p + 1)
theorem tkE_ge : b ≤ tkE T n b := by
  unfold tkE
  split
  · split
    · exact run_ge 700 b
    · split
      · exact run_ge 700 b
      · exact Nat.le_succ b
  · exact Nat.le_refl b
theorem tkE_lt (h : b < n) : b + 1 ≤ tkE T n b := by
  unfold tkE
  rw [if_pos h]
  split
  · next e => exact run_1 h e
  · split
    · next e => exact run_1 h e
    · exact Nat.le_refl _
theorem tkE_le (h : b ≤ n) : tkE T n b ≤ n := by
  unfold tkE
  split
  · next e =>
    split
    · exact run_le 700 b h
    · split
      · exact run_le 700 b h
      · exact e
  · exact h
theorem nxt_le (h : b ≤ n) : nxb T n b ≤ n := run_le 700 _ (tkE_le h)
theorem nxt_lt (h : b < n) : b + 1 ≤ nxb T n b := Nat.le_trans (tkE_lt h) (run_ge 700 _)
theorem tk_lt (h : ¬ tkK T n b = 0) : b < n := by
  apply Classical.byContradiction
  intro x
  apply h
  unfold tkK
  rw [if_neg x]
theorem tkK_le : tkK T n b ≤ 4 := by
  unfold tkK
  split
  · split
    · omega
    · split
      · omega
      · split <;> omega
  · omega
/-- the reference stands at the token that begins at b -/
def ML (σ : MS) (T : Nat → Nat) (n b : Nat) : Prop := TPs σ T n ∧ b ≤ n ∧ mf σ 18 = i3 (tkE T n b) ∧ mf σ 19 = i3 (tkK T n b) ∧ mf σ 20 = i3 b ∧ mf σ 21 = i3 (tkE T n b - b) ∧ mf σ 22 = i3 (vlu T n b) ∧ mf σ 23 = i3 (if b < n then T b else 0) ∧ mw σ = pkw T n b
/-- but for the token all is the same -/
def Lx (σ σ' : MS) : Prop := (∀ k, k < 18 ∨ 23 < k → mf σ' k = mf σ k) ∧ ∀ j, ma σ' j = ma σ j
theorem Lx_refl (σ : MS) : Lx σ σ := ⟨fun _ _ => rfl, fun _ => rfl⟩
theorem Lx_trans {σ σ' σ'' : MS} (h : Lx σ σ') (h2 : Lx σ' σ'') : Lx σ σ'' := ⟨fun k hk => (h2.1 k hk).trans (h.1 k hk), fun j => (h2.2 j).trans (h.2 j)⟩
theorem Lx_sf {k : Nat} {v : Int32} (h1 : 18 ≤ k) (h2 : k ≤ 23) : Lx σ (sf σ k v) := ⟨fun q hq => mf_sfn (by omega), fun _ => rfl⟩
theorem Lx_sw {v : Int64} : Lx σ (sw σ v) := ⟨fun _ _ => rfl, fun _ => rfl⟩
theorem sgn_all : ∀ c : Fin 256, (if i3 c.val = 59 then some 3 else if i3 c.val = 40 then some 3 else if i3 c.val = 41 then some 3 else if i3 c.val = 43 then some 3 else if i3 c.val = 45 then some 3 else if i3 c.val = 42 then some 3 else if i3 c.val = 47 then some 3 else if i3 c.val = 60 then some 3 else if i3 c.val = 61 then some 3 else some 4 : Option Int32) = some (i3 (if sgn c.val = true then 3 else 4)) := by decide +kernel
theorem mw_sf {k : Nat} {v : Int32} : mw (sf σ k v) = mw σ := rfl
theorem mf_sw {k : Nat} {v : Int64} : mf (sw σ v) k = mf σ k := rfl
theorem pf_e {k : Nat} {v : Int32} : pf σ k v = some (sf σ k v) := rfl
theorem pw_e {v : Int64} : pw σ v = some (sw σ v) := rfl
theorem pkw_no (h : ¬ tkK T n b = 1) : pkw T n b = 0 := if_neg h
theorem vlu_no (h : ¬ tkK T n b = 2) : vlu T n b = 0 := if_neg h
theorem M_goes_fin {s0 s9 : MS} (hT : TPs s9 T n) (hb : b ≤ n) (h18 : mf s9 18 = i3 (tkE T n b)) (h19 : mf s9 19 = i3 (tkK T n b)) (h20 : mf s9 20 = i3 b) (h22 : mf s9 22 = i3 (vlu T n b)) (h23 : mf s9 23 = i3 (if b < n then T b else 0)) (hw : mw s9 = pkw T n b) (hx : Lx s0 s9) :
    ∃ σ', ((pf s9 21 ((mf s9 18) - (mf s9 20))).bind fun s10 => some s10) = some σ' ∧ ML σ' T n b ∧ Lx s0 σ' := by
  rw [pf_e, Option.bind_some, h18, h20, i3_sub tkE_ge]
  refine ⟨_, rfl, ⟨TPs_sf hT (by decide), hb, ?_, ?_, ?_, mf_sfe, ?_, ?_, hw⟩, Lx_trans hx (Lx_sf (by decide) (by decide))⟩
  · rw [mf_sfn (by decide)]; exact h18
  · rw [mf_sfn (by decide)]; exact h19
  · rw [mf_sfn (by decide)]; exact h20
  · rw [mf_sfn (by decide)]; exact h22
  · rw [mf_sfn (by decide)]; exact h23
theorem M_goes_eq (h : TPs σ T n) {p : Nat} (h18 : mf σ 18 = i3 p) (hp : p ≤ n) : ∃ σ', M_goes σ = some σ' ∧ ML σ' T n (run isW T n 700 p) ∧ Lx σ σ' := by
  have hn := h.2.1
  unfold M_goes
  rw [M_goesW_eq h h18 hp]
  have hbn : run isW T n 700 p ≤ n := run_le 700 p hp
  generalize run isW T n 700 p = b at hbn
  rw [Option.bind_some, pf_e, Option.bind_some, mf_sfe, pw_e, Option.bind_some, pf_e, Option.bind_some]
  have hT : TPs (sf (sw (sf (sf σ 18 (i3 b)) 20 (i3 b)) 0) 22 0) T n := TPs_sf (TPs_sw (TPs_sf (TPs_sf h (by decide)) (by decide))) (by decide)
  have e18 : mf (sf (sw (sf (sf σ 18 (i3 b)) 20 (i3 b)) 0) 22 0) 18 = i3 b := by rw [mf_sfn (by decide), mf_sw, mf_sfn (by decide), mf_sfe]
  rw [e18, M_byteAt_eq hT (by omega), Option.bind_some, pf_e, Option.bind_some]
  have hcb : (if b < n then T b else 0) < 256 := by
    split
    · exact h.2.2.2 b
    · decide
  have hT8 : TPs (sf (sf (sw (sf (sf σ 18 (i3 b)) 20 (i3 b)) 0) 22 0) 23 (i3 (if b < n then T b else 0))) T n := TPs_sf hT (by decide)
  have f18 : mf (sf (sf (sw (sf (sf σ 18 (i3 b)) 20 (i3 b)) 0) 22 0) 23 (i3 (if b < n then T b else 0))) 18 = i3 b := by rw [mf_sfn (by decide)]; exact e18
  have f20 : mf (sf (sf (sw (sf (sf σ 18 (i3 b)) 20 (i3 b)) 0) 22 0) 23 (i3 (if b < n then T b else 0))) 20 = i3 b := by rw [mf_sfn (by decide), mf_sfn (by decide), mf_sw, mf_sfe]
  have f22 : mf (sf (sf (sw (sf (sf σ 18 (i3 b)) 20 (i3 b)) 0) 22 0) 23 (i3 (if b < n then T b else 0))) 22 = 0 := by rw [mf_sfn (by decide), mf_sfe]
  have f23 : mf (sf (sf (sw (sf (sf σ 18 (i3 b)) 20 (i3 b)) 0) 22 0) 23 (i3 (if b < n then T b else 0))) 23 = i3 (if b < n then T b else 0) := mf_sfe
  have fw : mw (sf (sf (sw (sf (sf σ 18 (i3 b)) 20 (i3 b)) 0) 22 0) 23 (i3 (if b < n then T b else 0))) = 0 := rfl
  have fx : Lx σ (sf (sf (sw (sf (sf σ 18 (i3 b)) 20 (i3 b)) 0) 22 0) 23 (i3 (if b < n then T b else 0))) :=
    Lx_trans (Lx_sf (k := 18) (by decide) (by decide)) (Lx_trans (Lx_sf (k := 20) (by decide) (by decide)) (Lx_trans Lx_sw (Lx_trans (Lx_sf (k := 22) (by decide) (by decide)) (Lx_sf (k := 23) (by decide) (by decide)))))
  generalize sf (sf (sw (sf (sf σ 18 (i3 b)) 20 (i3 b)) 0) 22 0) 23 (i3 (if b < n then T b else 0)) = s8 at hT8 f18 f20 f22 f23 fw fx
  have e17 : mf s8 17 = i3 n := hT8.1
  rw [f18, e17]
  by_cases eb : b < n
  · rw [if_pos ((i3_lt (by omega) (by omega)).mpr eb)]
    have ec : (if b < n then T b else 0) = T b := if_pos eb
    rw [ec] at hcb f23 ⊢
    rw [M_isLetter_eq hcb, Option.bind_some]
    by_cases eL : isL (T b) = true
    · have kE : tkE T n b = run isL T n 700 b := by unfold tkE; rw [if_pos eb, if_pos eL]
      have kK : tkK T n b = 1 := by unfold tkK; rw [if_pos eb, if_pos eL]
      rw [if_neg (by rw [bI_0, eL]; decide), M_goesL_eq hT8 f18 f20 fw (by omega), Option.bind_some, pf_e, Option.bind_some, Option.bind_some]
      refine M_goes_fin (TPs_sf (TPs_sf (TPs_sw hT8) (by decide)) (by decide)) hbn ?_ ?_ ?_ ?_ ?_ ?_ ?_
      · rw [mf_sfn (by decide), mf_sfe, kE]
      · rw [mf_sfe, kK]; rfl
      · rw [mf_sfn (by decide), mf_sfn (by decide), mf_sw]; exact f20
      · rw [mf_sfn (by decide), mf_sfn (by decide), mf_sw, vlu_no (by rw [kK]; decide)]; exact f22
      · rw [mf_sfn (by decide), mf_sfn (by decide), mf_sw, if_pos eb]; exact f23
      · unfold pkw; rw [if_pos kK, kE]; rfl
      · exact Lx_trans fx (Lx_trans Lx_sw (Lx_trans (Lx_sf (k := 18) (by decide) (by decide)) (Lx_sf (k := 19) (by decide) (by decide))))
    · have eL2 : isL (T b) = false := by cases q : isL (T b) with
        | false => rfl
        | true => exact absurd q eL
      rw [if_pos (by rw [bI_0]; exact eL2), M_isDigit_eq hcb, Option.bind_some]
      by_cases eD : isD (T b) = true
      · have kE : tkE T n b = run isD T n 700 b := by unfold tkE; rw [if_pos eb, if_neg eL, if_pos eD]
        have kK : tkK T n b = 2 := by unfold tkK; rw [if_pos eb, if_neg eL, if_pos eD]
        rw [if_neg (by rw [bI_0, eD]; decide), M_goesD_eq hT8 f18 f20 f22 (by omega), Option.bind_some, pf_e, Option.bind_some, Option.bind_some]
        refine M_goes_fin (TPs_sf (TPs_sf (TPs_sf hT8 (by decide)) (by decide)) (by decide)) hbn ?_ ?_ ?_ ?_ ?_ ?_ ?_
        · rw [mf_sfn (by decide), mf_sfe, kE]
        · rw [mf_sfe, kK]; rfl
        · rw [mf_sfn (by decide), mf_sfn (by decide), mf_sfn (by decide)]; exact f20
        · rw [mf_sfn (by decide), mf_sfn (by decide), mf_sfe]; unfold vlu; rw [if_pos kK, kE]
        · rw [mf_sfn (by decide), mf_sfn (by decide), mf_sfn (by decide), if_pos eb]; exact f23
        · rw [pkw_no (by rw [kK]; decide)]; exact fw
        · exact Lx_trans fx (Lx_trans (Lx_sf (k := 22) (by decide) (by decide)) (Lx_trans (Lx_sf (k := 18) (by decide) (by decide)) (Lx_sf (k := 19) (by decide) (by decide))))
      · have eD2 : isD (T b) = false := by cases q : isD (T b) with
          | false => rfl
          | true => exact absurd q eD
        have kE : tkE T n b = b + 1 := by unfold tkE; rw [if_pos eb, if_neg eL, if_neg eD]
        have kK : tkK T n b = if sgn (T b) = true then 3 else 4 := by unfold tkK; rw [if_pos eb, if_neg eL, if_neg eD]
        have k1 : ¬ tkK T n b = 1 := by rw [kK]; split <;> decide
        have k2 : ¬ tkK T n b = 2 := by rw [kK]; split <;> decide
        rw [if_pos (by rw [bI_0]; exact eD2), pf_e, Option.bind_some, sgn_all ⟨T b, hcb⟩, Option.bind_some, pf_e, Option.bind_some, Option.bind_some, i3_succ]
        refine M_goes_fin (TPs_sf (TPs_sf hT8 (by decide)) (by decide)) hbn ?_ ?_ ?_ ?_ ?_ ?_ ?_
        · rw [mf_sfn (by decide), mf_sfe, kE]
        · rw [mf_sfe, kK]
        · rw [mf_sfn (by decide), mf_sfn (by decide)]; exact f20
        · rw [mf_sfn (by decide), mf_sfn (by decide), vlu_no k2]; exact f22
        · rw [mf_sfn (by decide), mf_sfn (by decide), if_pos eb]; exact f23
        · rw [pkw_no k1]; exact fw
        · exact Lx_trans fx (Lx_trans (Lx_sf (k := 18) (by decide) (by decide)) (Lx_sf (k := 19) (by decide) (by decide)))
  · have kE : tkE T n b = b := by unfold tkE; rw [if_neg eb]
    have kK : tkK T n b = 0 := by unfold tkK; rw [if_neg eb]
    rw [if_neg (fun x => eb ((i3_lt (by omega) (by omega)).mp x)), pf_e, Option.bind_some, Option.bind_some]
    refine M_goes_fin (TPs_sf hT8 (by decide)) hbn ?_ ?_ ?_ ?_ ?_ ?_ ?_
    · rw [mf_sfn (by decide), kE]; exact f18
    · rw [mf_sfe, kK]; rfl
    · rw [mf_sfn (by decide)]; exact f20
    · rw [mf_sfn (by decide), vlu_no (by rw [kK]; decide)]; exact f22
    · rw [mf_sfn (by decide)]; exact f23
    · rw [pkw_no (by rw [kK]; decide)]; exact fw
    · exact Lx_trans fx (Lx_sf (k := 19) (by decide) (by decide))
theorem M_goes_nxt (h : ML σ T n b) : ∃ σ', M_goes σ = some σ' ∧ ML σ' T n (nxb T n b) ∧ Lx σ σ' :=
  M_goes_eq h.1 h.2.2.1 (tkE_le h.2.1)
theorem ML_lx {σ' : MS} (h : ML σ T n b) (hf : ∀ k, 17 ≤ k → k ≤ 23 → mf σ' k = mf σ k) (hw : mw σ' = mw σ) (ha : ma σ' 12 = ma σ 12) : ML σ' T n b := by
  obtain ⟨⟨t1, t2, t3, t4⟩, h1, h2, h3, h4, h5, h6, h7, h8⟩ := h
  refine ⟨⟨?_, t2, ?_, t4⟩, h1, ?_, ?_, ?_, ?_, ?_, ?_, ?_⟩
  · rw [hf 17 (by decide) (by decide)]; exact t1
  · rw [ha]; exact t3
  · rw [hf 18 (by decide) (by decide)]; exact h2
  · rw [hf 19 (by decide) (by decide)]; exact h3
  · rw [hf 20 (by decide) (by decide)]; exact h4
  · rw [hf 21 (by decide) (by decide)]; exact h5
  · rw [hf 22 (by decide) (by decide)]; exact h6
  · rw [hf 23 (by decide) (by decide)]; exact h7
  · rw [hw]; exact h8
/-! signs -/
def sg (T : Nat → Nat) (n b c : Nat) : Bool := decide (tkK T n b = 3) && decide (T b = c)
theorem M_isSign_eq (h : ML σ T n b) {c : Nat} {x : Int32} (hx : x = i3 c) (hc : c < 256) : M_isSign σ x = some (bI (sg T n b c)) := by
  obtain ⟨h0, h1, h2, h3, h4, h5, h6, h7, h8⟩ := h
  have hb := h0.2.2.2 b
  unfold M_isSign sg
  rw [h3]
  have e3 : (i3 (tkK T n b) = 3) ↔ tkK T n b = 3 := i3_inj (b := 3) (Nat.lt_of_le_of_lt tkK_le (by decide)) (by decide)
  by_cases e : tkK T n b = 3
  · have hlt : b < n := tk_lt (by rw [e]; decide)
    rw [if_pos (e3.mpr e), h7, if_pos hlt, hx, decide_eq_true e, Bool.true_and]
    by_cases ec : T b = c
    · rw [if_pos (by rw [ec]), decide_eq_true ec]; rfl
    · rw [if_neg (fun x => ec ((i3_inj (by omega) (by omega)).mp x)), decide_eq_false ec]; rfl
  · rw [if_neg (fun x => e (e3.mp x)), decide_eq_false e]; rfl
/-! words -/
def wdL : List (List Nat) := [[108, 101, 102, 116], [114, 105, 103, 104, 116], [115, 104, 101, 101, 116], [98, 111, 114, 110, 101], [116, 111, 119, 110], [100, 97, 121], [115, 104, 101, 101, 116, 115], [99, 108, 101, 114, 107, 115], [107, 110, 111, 119, 110], [99, 108, 101, 114, 107], [119, 111, 114, 100], [115, 108, 97, 99, 107], [108, 97, 121, 115], [109, 111, 117, 108, 100, 115], [97, 110, 100], [111, 114], [110, 111, 116]]
def wd (k : Nat) : List Nat := wdL.getD k []
/-- the token is that word -/
def isWd (T : Nat → Nat) (n b : Nat) (w : List Nat) : Bool := decide (tkK T n b = 1) && (decide (tkE T n b - b = w.length) && (List.range w.length).all fun i => decide (T (b + i) = w.getD i 0))
theorem isWd_iff {w : List Nat} : isWd T n b w = true ↔ tkK T n b = 1 ∧ tkE T n b - b = w.length ∧ ∀ i, i < w.length → T (b + i) = w.getD i 0 := by
  unfold isWd
  rw [Bool.and_eq_true, Bool.and_eq_true, decide_eq_true_iff, decide_eq_true_iff, List.all_eq_true]
  constructor
  · rintro ⟨h1, h2, h3⟩
    exact ⟨h1, h2, fun i hi => of_decide_eq_true (h3 i (List.mem_range.mpr hi))⟩
  · rintro ⟨h1, h2, h3⟩
    exact ⟨h1, h2, fun i hi => decide_eq_true (h3 i (List.mem_range.mp hi))⟩
/-- which known word it is -/
def kw (T : Nat → Nat) (n b : Nat) : Option Nat := (List.range 17).find? fun k => isWd T n b (wd k)
def kwI (T : Nat → Nat) (n b : Nat) : Int32 := match kw T n b with
  | some k => i3 k
  | none => -1
theorem wd_ne : ∀ a : Fin 17, ∀ b : Fin 17, wd a.val = wd b.val → a = b := by decide +kernel
theorem isWd_un {w v : List Nat} (h1 : isWd T n b w = true) (h2 : isWd T n b v = true) : w = v := by
  rw [isWd_iff] at h1 h2
  apply List.ext_getElem (by rw [← h1.2.1, ← h2.2.1])
  intro i q1 q2
  have e1 := h1.2.2 i q1
  have e2 := h2.2.2 i q2
  rw [List.getD_eq_getElem?_getD, List.getElem?_eq_getElem q1, Option.getD_some] at e1
  rw [List.getD_eq_getElem?_getD, List.getElem?_eq_getElem q2, Option.getD_some] at e2
  rw [← e1, ← e2]
theorem kw_some {k : Nat} : kw T n b = some k ↔ k < 17 ∧ isWd T n b (wd k) = true := by
  constructor
  · intro h
    exact ⟨List.mem_range.mp (List.mem_of_find?_eq_some h), by simpa using List.find?_some h⟩
  · rintro ⟨h1, h2⟩
    cases e : kw T n b with
    | none =>
      have := List.find?_eq_none.mp e k (List.mem_range.mpr h1)
      exact absurd h2 this
    | some j =>
      have q1 := List.mem_range.mp (List.mem_of_find?_eq_some e)
      have q2 : isWd T n b (wd j) = true := by simpa using List.find?_some e
      have := wd_ne ⟨j, q1⟩ ⟨k, h1⟩ (isWd_un q2 h2)
      rw [show j = k from congrArg Fin.val this]
theorem kw_none : kw T n b = none ↔ ∀ k, k < 17 → isWd T n b (wd k) = false := by
  constructor
  · intro h k hk
    have := List.find?_eq_none.mp h k (List.mem_range.mpr hk)
    cases e : isWd T n b (wd k) with
    | false => rfl
    | true => exact absurd e this
  · intro h
    apply List.find?_eq_none.mpr
    intro k hk
    rw [h k (List.mem_range.mp hk)]
    decide
theorem kw_word {k : Nat} (h : kw T n b = some k) : tkK T n b = 1 := (isWd_iff.mp (kw_some.mp h).2).1
/-- letters, five bits each -/
def pkN (T : Nat → Nat) (s : Nat) : Nat → Nat
  | 0 => 0
  | i + 1 => 32 * pkN T s i + (T (s + i) - 96)
theorem isL_iff {c : Nat} : isL c = true ↔ 97 ≤ c ∧ c ≤ 122 := by
  unfold isL
  rw [Bool.and_eq_true, decide_eq_true_iff, decide_eq_true_iff]
theorem pkN_lt {s : Nat} : ∀ i, (∀ j, j < i → isL (T (s + j)) = true) → pkN T s i < 32 ^ i := by
  intro i
  induction i with
  | zero => intro _; exact Nat.one_pos
  | succ i ih =>
    intro h
    have h1 := ih (fun j hj => h j (by omega))
    have h2 := isL_iff.mp (h i (by omega))
    unfold pkN
    rw [Nat.pow_succ]
    omega
theorem pk32 : ∀ d : Fin 32, (i3 d.val).toInt64 = Int64.ofNat d.val := by decide +kernel
theorem pk_or {x d : Nat} (hx : x < 2 ^ 30) (hd : d < 32) : (Int64.ofNat x <<< ((5 : Int32).toInt64 &&& 63)) ||| Int64.ofNat d = Int64.ofNat (32 * x + d) := by
  have e5 : ((5 : Int32).toInt64 &&& 63) = (5 : Int64) := by decide
  rw [e5]
  apply Int64.toBitVec_inj.mp
  have e1 : (Int64.ofNat x <<< (5 : Int64)).toBitVec = (BitVec.ofNat 64 x) <<< ((5#64).smod 64#64) := rfl
  have e2 : (5#64).smod 64#64 = 5#64 := by decide
  rw [Int64.toBitVec_or, e1, e2]
  show (BitVec.ofNat 64 x <<< 5#64) ||| BitVec.ofNat 64 d = BitVec.ofNat 64 (32 * x + d)
  apply BitVec.eq_of_toNat_eq
  rw [BitVec.toNat_or, BitVec.shiftLeft_eq', BitVec.toNat_shiftLeft, BitVec.toNat_ofNat, BitVec.toNat_ofNat, BitVec.toNat_ofNat, BitVec.toNat_ofNat]
  rw [show (5 : Nat) % 2 ^ 64 = 5 from rfl, Nat.mod_eq_of_lt (show x < 2 ^ 64 by omega), Nat.mod_eq_of_lt (show d < 2 ^ 64 by omega), Nat.mod_eq_of_lt (show 32 * x + d < 2 ^ 64 by omega), Nat.mod_eq_of_lt (show x <<< 5 < 2 ^ 64 by rw [Nat.shiftLeft_eq]; omega)]
  rw [← Nat.shiftLeft_add_eq_or_of_lt (show d < 2 ^ 5 by omega), Nat.shiftLeft_eq]
  omega
theorem pkw_eq {s : Nat} : ∀ i, i ≤ 6 → (∀ j, j < i → isL (T (s + j)) = true) → pk T s i = Int64.ofNat (pkN T s i) := by
  intro i
  induction i with
  | zero => intro _ _; rfl
  | succ i ih =>
    intro hi h
    have h2 := isL_iff.mp (h i (by omega))
    have h3 := pkN_lt i (fun j hj => h j (by omega))
    have h4 : 32 ^ i ≤ 32 ^ 5 := Nat.pow_le_pow_right (by decide) (by omega)
    have h5 : pkN T s i < 2 ^ 30 := Nat.lt_of_lt_of_le h3 (Nat.le_trans h4 (by decide))
    show (if i < 6 then (pk T s i <<< ((5 : Int32).toInt64 &&& 63)) ||| ((i3 (T (s + i)) - 96) : Int32).toInt64 else pk T s i) = _
    rw [if_pos (by omega), ih (by omega) (fun j hj => h j (by omega)), show i3 (T (s + i)) - 96 = i3 (T (s + i) - 96) from i3_sub (b := 96) (by omega), pk32 ⟨T (s + i) - 96, by omega⟩, pk_or h5 (by omega)]
    rfl
theorem pkN_inj {U : Nat → Nat} {s t : Nat} : ∀ d e, (∀ j, j < d → isL (T (s + j)) = true) → (∀ j, j < e → isL (U (t + j)) = true) → pkN T s d = pkN U t e → d = e ∧ ∀ i, i < d → T (s + i) = U (t + i) := by
  intro d
  induction d with
  | zero =>
    intro e _ h2 h3
    cases e with
    | zero => exact ⟨rfl, fun i hi => absurd hi (Nat.not_lt_zero _)⟩
    | succ e =>
      have := isL_iff.mp (h2 e (by omega))
      unfold pkN at h3
      omega
  | succ d ih =>
    intro e h1 h2 h3
    have a1 := isL_iff.mp (h1 d (by omega))
    cases e with
    | zero => unfold pkN at h3; omega
    | succ e =>
      have a2 := isL_iff.mp (h2 e (by omega))
      unfold pkN at h3
      obtain ⟨q1, q2⟩ := ih e (fun j hj => h1 j (by omega)) (fun j hj => h2 j (by omega)) (by omega)
      refine ⟨by omega, fun i hi => ?_⟩
      by_cases ei : i = d
      · subst ei; subst q1; omega
      · exact q2 i (by omega)
theorem tk_letters (h : tkK T n b = 1) : ∀ j, j < tkE T n b - b → isL (T (b + j)) = true := by
  have hlt : b < n := tk_lt (by rw [h]; decide)
  have eL : isL (T b) = true := by
    unfold tkK at h
    rw [if_pos hlt] at h
    apply Classical.byContradiction
    intro x
    rw [if_neg x] at h
    split at h
    · omega
    · split at h <;> omega
  have kE : tkE T n b = run isL T n 700 b := by unfold tkE; rw [if_pos hlt, if_pos eL]
  intro j hj
  rw [kE] at hj
  exact (run_in (g := isL) (T := T) (n := n) 700 b (b + j) (by omega) (by omega)).2
theorem tk_digits (h : tkK T n b = 2) : ∀ j, j < tkE T n b - b → isD (T (b + j)) = true := by
  have hlt : b < n := tk_lt (by rw [h]; decide)
  have eD : ¬ isL (T b) = true ∧ isD (T b) = true := by
    unfold tkK at h
    rw [if_pos hlt] at h
    split at h
    · omega
    · next eL =>
      split at h
      · next eD => exact ⟨eL, eD⟩
      · split at h <;> omega
  have kE : tkE T n b = run isD T n 700 b := by unfold tkE; rw [if_pos hlt, if_neg eD.1, if_pos eD.2]
  intro j hj
  rw [kE] at hj
  exact (run_in (g := isD) (T := T) (n := n) 700 b (b + j) (by omega) (by omega)).2
theorem vlu_lt : vlu T n b < 10000 := by
  unfold vlu
  split
  · next h =>
    have h1 := dv_lt (T := T) (s := b) (tkE T n b - b) (tk_digits h)
    have h2 : 10 ^ min (tkE T n b - b) 4 ≤ 10 ^ 4 := Nat.pow_le_pow_right (by decide) (by omega)
    omega
  · decide
set_option maxRecDepth 8000 in
theorem M_letters_all : ∀ k : Fin 17, M_letters (i3 k.val) = some (Int64.ofNat (pkN (fun i => (wd k.val).getD i 0) 0 (wd k.val).length)) := by decide +kernel
theorem wd_letters : ∀ k : Fin 17, (wd k.val).length ≤ 6 ∧ 0 < (wd k.val).length ∧ ∀ i : Fin 6, i.val < (wd k.val).length → isL ((wd k.val).getD i.val 0) = true := by decide +kernel
theorem wd_len {k : Nat} (h : k < 17) : (wd k).length ≤ 6 := (wd_letters ⟨k, h⟩).1
theorem i64_inj {a b : Nat} (ha : a < 2 ^ 31) (hb : b < 2 ^ 31) : Int64.ofNat a = Int64.ofNat b ↔ a = b := by
  constructor
  · intro h
    have h2 := congrArg (fun x => x.toBitVec.toNat) h
    have e : ∀ c : Nat, c < 2 ^ 31 → (Int64.ofNat c).toBitVec.toNat = c := fun c hc => by
      show (BitVec.ofNat 64 c).toNat = c
      rw [BitVec.toNat_ofNat, Nat.mod_eq_of_lt (by omega)]
    rw [e a ha, e b hb] at h2
    exact h2
  · intro h; rw [h]
theorem lg_cmp0 {x y : Int64} : lg_cmp x y = 0 ↔ x = y := by
  unfold lg_cmp
  by_cases e : x = y
  · subst e
    rw [if_neg (by exact Int64.lt_irrefl), if_pos rfl]
    simp
  · split
    · constructor
      · intro h; exact absurd h (by decide)
      · intro h; exact absurd h e
    · constructor
      · intro h; exact absurd h (by decide)
      · intro h; exact absurd h e
theorem M_knownWord_eq (h : ML σ T n b) : M_knownWord σ = some (kwI T n b) := by
  obtain ⟨h0, h1, h2, h3, h4, h5, h6, h7, h8⟩ := h
  have hn := h0.2.1
  have hE := tkE_le (T := T) h1
  unfold M_knownWord
  rw [h3, h5]
  have e1 : (i3 (tkK T n b) = 1) ↔ tkK T n b = 1 := i3_inj (b := 1) (Nat.lt_of_le_of_lt tkK_le (by decide)) (by decide)
  by_cases e : tkK T n b = 1
  · rw [if_pos (e1.mpr e)]
    by_cases e6 : tkE T n b - b ≤ 6
    · rw [if_pos ((i3_lel (c := 6) (n := 6) rfl (by omega) (by decide)).mpr e6)]
      have hL := tk_letters e
      have hp : mw σ = Int64.ofNat (pkN T b (tkE T n b - b)) := by
        rw [h8]
        unfold pkw
        rw [if_pos e, pkw_eq _ e6 hL]
      have hlt6 : ∀ {U : Nat → Nat} {s i : Nat}, i ≤ 6 → (∀ j, j < i → isL (U (s + j)) = true) → pkN U s i < 2 ^ 31 := by
        intro U s i hi hU
        have a1 := pkN_lt (T := U) (s := s) i hU
        have a2 : 32 ^ i ≤ 32 ^ 6 := Nat.pow_le_pow_right (by decide) hi
        have a3 : (32 : Nat) ^ 6 < 2 ^ 31 := by decide
        omega
      have key : ∀ k, k < 17 → ((Int64.ofNat (pkN (fun i => (wd k).getD i 0) 0 (wd k).length) = mw σ) ↔ isWd T n b (wd k) = true) := by
        intro k hk
        obtain ⟨l1, l2, l3⟩ := wd_letters ⟨k, hk⟩
        have hU : ∀ j, j < (wd k).length → isL ((fun i => (wd k).getD i 0) (0 + j)) = true := by
          intro j hj
          show isL ((wd k).getD (0 + j) 0) = true
          rw [Nat.zero_add]
          exact l3 ⟨j, Nat.lt_of_lt_of_le hj l1⟩ hj
        rw [hp, i64_inj (hlt6 l1 hU) (hlt6 e6 hL), isWd_iff]
        constructor
        · intro q
          obtain ⟨q1, q2⟩ := pkN_inj _ _ hU hL q
          exact ⟨e, q1.symm, fun i hi => by
            have := q2 i hi
            rw [Nat.zero_add] at this
            exact this.symm⟩
        · rintro ⟨-, q1, q2⟩
          have gen : ∀ m, m ≤ (wd k).length → pkN (fun i => (wd k).getD i 0) 0 m = pkN T b m := by
            intro m
            induction m with
            | zero => intro _; rfl
            | succ m ih =>
              intro hm
              unfold pkN
              rw [ih (by omega), q2 m (by omega), Nat.zero_add]
          rw [gen _ (Nat.le_refl _), q1]
      cases ek : kw T n b with
      | none =>
        have hno := kw_none.mp ek
        have ekI : kwI T n b = -1 := by unfold kwI; rw [ek]
        rw [ekI]
        refine o_for0 (fun k => i3 k) 17 rfl (fun k hk => ?_) ?_
        · unfold M_knownWord_L21
          rw [if_pos ((i3_ltl (c := 17) (n := 17) rfl (by omega) (by decide)).mpr hk), M_letters_all ⟨k, hk⟩, Option.bind_some, if_neg, i3_succ]
          rw [lg_cmp0, key k hk, hno k hk]
          decide
        · unfold M_knownWord_L21
          rw [if_neg (by decide)]
      | some j =>
        obtain ⟨j1, j2⟩ := kw_some.mp ek
        have ekI : kwI T n b = i3 j := by unfold kwI; rw [ek]
        rw [ekI]
        refine o_for0 (fun k => i3 k) j rfl (fun k hk => ?_) ?_
        · have hk17 : k < 17 := by omega
          unfold M_knownWord_L21
          rw [if_pos ((i3_ltl (c := 17) (n := 17) rfl (by omega) (by decide)).mpr hk17), M_letters_all ⟨k, hk17⟩, Option.bind_some, if_neg, i3_succ]
          rw [lg_cmp0, key k hk17]
          intro q
          have := wd_ne ⟨k, hk17⟩ ⟨j, j1⟩ (isWd_un q j2)
          have := congrArg Fin.val this
          dsimp only at this
          omega
        · unfold M_knownWord_L21
          rw [if_pos ((i3_ltl (c := 17) (n := 17) rfl (by omega) (by decide)).mpr j1), M_letters_all ⟨j, j1⟩, Option.bind_some, if_pos]
          rw [lg_cmp0]
          exact (key j j1).mpr j2
    · rw [if_neg (fun x => e6 ((i3_lel (c := 6) (n := 6) rfl (by omega) (by decide)).mp x))]
      have ek : kw T n b = none := kw_none.mpr (fun k hk => by
        cases q : isWd T n b (wd k) with
        | false => rfl
        | true =>
          have := (isWd_iff.mp q).2.1
          have := wd_len hk
          omega)
      unfold kwI
      rw [ek]
  · rw [if_neg (fun x => e (e1.mp x))]
    have ek : kw T n b = none := kw_none.mpr (fun k hk => by
      cases q : isWd T n b (wd k) with
      | false => rfl
      | true => exact absurd (isWd_iff.mp q).1 e)
    unfold kwI
    rw [ek]
theorem kwI_iff {k : Nat} (hk : k < 17) {x : Int32} (hx : x = i3 k) : kwI T n b = x ↔ kw T n b = some k := by
  unfold kwI
  cases e : kw T n b with
  | none =>
    rw [hx]
    constructor
    · intro h; exact absurd h.symm (i3_m1 (by omega))
    · intro h; cases h
  | some j =>
    have hj := (kw_some.mp e).1
    rw [hx]
    dsimp only
    rw [i3_inj (by omega) (by omega)]
    constructor
    · intro h; rw [h]
    · intro h; exact Option.some.inj h
end LEXM
