/-! ===== the mathematical state: an office (sheets, clerks, words, slack; rounds, their lengths; words' sheets; the two expressions), a service as one row (0 the day; 1.. left edges; 10.. right edges; 19.. where: below 4 a town, 4 + c borne, 99 burnt; 28.. what clerks know) ===== -/
abbrev PO : Type := (Nat × Nat × Nat × Nat) × (Nat → Nat → Nat) × (Nat → Nat) × (Nat → Nat) × (Nat → Nat) × Option ((Nat → Int32) → Int32) × Option ((Nat → Int32) → Int32)
abbrev SV : Type := Nat → Nat
def pN (P : PO) : Nat := P.1.1
def pM (P : PO) : Nat := P.1.2.1
def pQ' (P : PO) : Nat := P.1.2.2.1
def pS (P : PO) : Nat := P.1.2.2.2
def pR (P : PO) : Nat → Nat → Nat := P.2.1
def pL (P : PO) : Nat → Nat := P.2.2.1
def pA (P : PO) : Nat → Nat := P.2.2.2.1
def pB (P : PO) : Nat → Nat := P.2.2.2.2.1
def pY (P : PO) : Option ((Nat → Int32) → Int32) := P.2.2.2.2.2.1
def pZ (P : PO) : Option ((Nat → Int32) → Int32) := P.2.2.2.2.2.2
def upn (w : SV) (j v : Nat) : SV := fun q => if q = j then v else w q
def itf {α : Type} (f : Nat → α → α) : Nat → α → α
  | 0, a => a
  | n + 1, a => f n (itf f n a)
def wI (v : Nat) : Int32 := if v = 99 then -1 else i3 v
def towD (P : PO) (c d : Nat) : Nat := pR P c (d % pL P c)
def tow (P : PO) (w : SV) (c : Nat) : Nat := towD P c (w 0)
def bnt (w : SV) (k : Nat) : Bool := decide (w (19 + k) = 99)
def whr (P : PO) (w : SV) (k : Nat) : Nat := if w (19 + k) < 4 then w (19 + k) else if w (19 + k) = 99 then 99 else tow P w (w (19 + k) - 4)
def far (w : SV) (a b : Nat) : Nat := pc (w (10 + a) ^^^ w (1 + b))
def fit (P : PO) (w : SV) (a b : Nat) : Bool := !decide (a = b) && (!bnt w a && (!bnt w b && decide (far w a b ≤ pS P)))
def shI (P : PO) (w : SV) (t : Nat) : Nat := bst (fun k => decide (whr P w k = t)) (pN P)
def clI (P : PO) (w : SV) (t : Nat) : Nat := bst (fun c => decide (tow P w c = t)) (pM P)
def rdO (P : PO) (w : SV) (s : Nat) : Nat := bst (fun i => s.testBit (pA P i) && s.testBit (pB P i) && fit P w (pA P i) (pB P i)) (pQ' P)
def shw (P : PO) (w : SV) (t : Nat) : Nat := rdO P w (shI P w t)
def knw (P : PO) (w : SV) (s : Nat) : Nat := orf (fun c => if s.testBit c = true then w (28 + c) else 0) (pM P)
def evL (t a b c d : Int32) : Nat → Int32 := fun k => match k with
  | 4 => t
  | 5 => d
  | 6 => a
  | 7 => b
  | 8 => c
  | _ => 0
def evM (a b c d e f : Int32) : Nat → Int32 := fun k => match k with
  | 0 => a
  | 1 => b
  | 2 => c
  | 3 => e
  | 4 => d
  | 5 => f
  | _ => 0
def cnL (f : Nat → Int32) : Nat → Int32 := evL (f 4) (f 6) (f 7) (f 8) (f 5)
def cnM (f : Nat → Int32) : Nat → Int32 := evM (f 0) (f 1) (f 2) (f 4) (f 3) (f 5)
def lys (P : PO) (w : SV) (t : Nat) : Bool := match pY P with
  | none => true
  | some E => !decide (E (evL (i3 t) (i3 (pc (shI P w t))) (i3 (pc (clI P w t))) (i3 (pc (knw P w (clI P w t)))) (i3 (w 0))) ≤ 0)
def lrn (P : PO) (w : SV) (s v : Nat) : SV := fun j => if 28 ≤ j ∧ j < 28 + pM P ∧ s.testBit (j - 28) = true then w j ||| v else w j
def stp (v : Int32) : Nat := 2 ^ ((v - 1).toNatClampNeg % 8)
def grV (P : PO) (w : SV) (k : Nat) : Nat → Int32 := evM (i3 (w (1 + k))) (i3 (w (10 + k))) (i3 k) (wI (whr P w k)) (bI (decide (4 ≤ w (19 + k)))) (i3 (w 0))
def grw (P : PO) (k : Nat) (w : SV) : SV := match pZ P with
  | none => w
  | some E => if bnt w k = true then w else if E (grV P w k) ≤ 0 then w else upn w (10 + k) (w (10 + k) ^^^ stp (E (grV P w k)))
def ps1 (P : PO) (t : Nat) (w : SV) : SV := if clI P w t = 0 then w else if lys P w t = true then lrn P w (clI P w t) (shw P w t) else w
def psG (P : PO) (w : SV) : SV := itf (grw P) (pN P) (itf (ps1 P) 4 w)
def pas (P : PO) (w : SV) : SV := upn (psG P w) 0 (psG P w 0 + 1)
def aft (P : PO) (n : Nat) (w : SV) : SV := itf (fun _ => pas P) n w
/-! ===== what is well formed ===== -/
def WFP (P : PO) : Prop := pN P ≤ 9 ∧ pM P ≤ 6 ∧ pQ' P ≤ 12 ∧ pS P ≤ 8 ∧ (∀ c i, c < pM P → i < pL P c → pR P c i < 4) ∧ (∀ c, c < pM P → 1 ≤ pL P c ∧ pL P c ≤ 6) ∧ ∀ i, i < pQ' P → pA P i < pN P ∧ pB P i < pN P ∧ pA P i ≠ pB P i
def WFS (P : PO) (w : SV) : Prop := (∀ k, k < pN P → w (1 + k) < 256) ∧ (∀ k, k < pN P → w (10 + k) < 256) ∧ (∀ k, k < pN P → w (19 + k) < 4 ∨ (4 ≤ w (19 + k) ∧ w (19 + k) < 4 + pM P) ∨ w (19 + k) = 99) ∧ (∀ c, c < pM P → w (28 + c) < 2 ^ 12) ∧ w 0 < 2 ^ 20
theorem wfp_tow {P : PO} (h : WFP P) {c d : Nat} (hc : c < pM P) : towD P c d < 4 := by
  obtain ⟨_, _, _, _, h5, h6, _⟩ := h
  exact h5 c _ hc (Nat.mod_lt _ (h6 c hc).1)
theorem whr_lt {P : PO} {w : SV} (h : WFP P) (hw : WFS P w) {k : Nat} (hk : k < pN P) : whr P w k < 4 ∨ whr P w k = 99 := by
  unfold whr
  split
  · left; assumption
  · next h1 =>
    split
    · right; rfl
    · next h2 =>
      left
      rcases hw.2.2.1 k hk with h3 | h3 | h3
      · exact absurd h3 h1
      · exact wfp_tow h (by omega)
      · exact absurd h3 h2
theorem shI_lt (P : PO) (w : SV) (t : Nat) : shI P w t < 2 ^ pN P := bst_lt _ _
theorem clI_lt (P : PO) (w : SV) (t : Nat) : clI P w t < 2 ^ pM P := bst_lt _ _
theorem rdO_lt (P : PO) (w : SV) (s : Nat) : rdO P w s < 2 ^ pQ' P := bst_lt _ _
theorem p2 {a b n : Nat} (h : a < 2 ^ n) (hn : n ≤ b) : a < 2 ^ b := Nat.lt_of_lt_of_le h (Nat.pow_le_pow_right (by decide) hn)
theorem knw_lt {P : PO} {w : SV} (hw : WFS P w) (s : Nat) : knw P w s < 2 ^ 12 := by
  apply orf_lt
  intro c hc
  split
  · exact hw.2.2.2.1 c hc
  · decide
theorem stp_lt (v : Int32) : stp v < 256 := by
  unfold stp
  have : 2 ^ ((v - 1).toNatClampNeg % 8) < 2 ^ 8 := Nat.pow_lt_pow_right (by decide) (Nat.mod_lt _ (by decide))
  exact this
theorem xor_lt {a b : Nat} (ha : a < 256) (hb : b < 256) : a ^^^ b < 256 := Nat.xor_lt_two_pow (n := 8) ha hb
theorem wfs_lrn {P : PO} {w : SV} (hw : WFS P w) {s v : Nat} (hv : v < 2 ^ 12) (hP : pM P ≤ 6) (hN : pN P ≤ 9) : WFS P (lrn P w s v) := by
  obtain ⟨h1, h2, h3, h4, h5⟩ := hw
  have e : ∀ j, ¬ 28 ≤ j → lrn P w s v j = w j := by
    intro j hj
    unfold lrn
    rw [if_neg (fun h => hj h.1)]
  refine ⟨fun k hk => ?_, fun k hk => ?_, fun k hk => ?_, fun c hc => ?_, ?_⟩
  · rw [e _ (by omega)]; exact h1 k hk
  · rw [e _ (by omega)]; exact h2 k hk
  · rw [e _ (by omega)]; exact h3 k hk
  · unfold lrn
    split
    · exact Nat.or_lt_two_pow (h4 c hc) hv
    · exact h4 c hc
  · rw [e _ (by omega)]; exact h5
theorem wfs_up10 {P : PO} {w : SV} (hw : WFS P w) {k v : Nat} (hv : v < 256) (hk : k < pN P) (hN : pN P ≤ 9) : WFS P (upn w (10 + k) v) := by
  obtain ⟨h1, h2, h3, h4, h5⟩ := hw
  refine ⟨fun j hj => ?_, fun j hj => ?_, fun j hj => ?_, fun c hc => ?_, ?_⟩
  · unfold upn; rw [if_neg (by omega)]; exact h1 j hj
  · unfold upn; split
    · exact hv
    · exact h2 j hj
  · unfold upn; rw [if_neg (by omega)]; exact h3 j hj
  · unfold upn; rw [if_neg (by omega)]; exact h4 c hc
  · unfold upn; rw [if_neg (by omega)]; exact h5
theorem wfs_up0 {P : PO} {w : SV} (hw : WFS P w) {v : Nat} (hv : v < 2 ^ 20) : WFS P (upn w 0 v) := by
  obtain ⟨h1, h2, h3, h4, h5⟩ := hw
  refine ⟨fun j hj => ?_, fun j hj => ?_, fun j hj => ?_, fun c hc => ?_, ?_⟩
  · unfold upn; rw [if_neg (by omega)]; exact h1 j hj
  · unfold upn; rw [if_neg (by omega)]; exact h2 j hj
  · unfold upn; rw [if_neg (by omega)]; exact h3 j hj
  · unfold upn; rw [if_neg (by omega)]; exact h4 c hc
  · unfold upn; rw [if_pos rfl]; exact hv
theorem wfs_grw {P : PO} {w : SV} (hw : WFS P w) {k : Nat} (hk : k < pN P) (hN : pN P ≤ 9) : WFS P (grw P k w) := by
  unfold grw
  split
  · exact hw
  · split
    · exact hw
    · split
      · exact hw
      · exact wfs_up10 hw (xor_lt (hw.2.1 k hk) (stp_lt _)) hk hN
theorem wfs_ps1 {P : PO} {w : SV} (hP : WFP P) (hw : WFS P w) (t : Nat) : WFS P (ps1 P t w) := by
  unfold ps1
  split
  · exact hw
  · split
    · exact wfs_lrn hw (p2 (rdO_lt P w _) hP.2.2.1) hP.2.1 hP.1
    · exact hw
theorem itf_inv {α : Type} {f : Nat → α → α} (I : α → Prop) (n : Nat) (hs : ∀ k a, k < n → I a → I (f k a)) : ∀ m, m ≤ n → ∀ a, I a → I (itf f m a) := by
  intro m
  induction m with
  | zero => intro _ a h; exact h
  | succ m ih => intro hm a h; exact hs m _ (by omega) (ih (by omega) a h)
theorem wfs_psG {P : PO} {w : SV} (hP : WFP P) (hw : WFS P w) : WFS P (psG P w) :=
  itf_inv (WFS P) (pN P) (fun k a hk ha => wfs_grw ha hk hP.1) _ (Nat.le_refl _) _ (itf_inv (WFS P) 4 (fun k a _ ha => wfs_ps1 hP ha k) _ (Nat.le_refl _) _ hw)
theorem grw_0 (P : PO) (k : Nat) (w : SV) : grw P k w 0 = w 0 := by
  unfold grw
  cases pZ P with
  | none => rfl
  | some E =>
    dsimp only
    split
    · rfl
    · split
      · rfl
      · unfold upn
        rw [if_neg (by omega)]
theorem ps1_0 (P : PO) (t : Nat) (w : SV) : ps1 P t w 0 = w 0 := by
  unfold ps1
  split
  · rfl
  · split
    · unfold lrn
      rw [if_neg (by omega)]
    · rfl
theorem psG_0 (P : PO) (w : SV) : psG P w 0 = w 0 :=
  itf_inv (fun a => a 0 = w 0) (pN P) (fun k a _ ha => (grw_0 P k a).trans ha) _ (Nat.le_refl _) _ (itf_inv (fun a => a 0 = w 0) 4 (fun k a _ ha => (ps1_0 P k a).trans ha) _ (Nat.le_refl _) _ rfl)
theorem pas_0 (P : PO) (w : SV) : pas P w 0 = w 0 + 1 := by
  unfold pas upn
  rw [if_pos rfl, psG_0]
theorem wfs_pas {P : PO} {w : SV} (hP : WFP P) (hw : WFS P w) (hd : w 0 + 1 < 2 ^ 20) : WFS P (pas P w) := wfs_up0 (wfs_psG hP hw) (by rw [psG_0]; exact hd)
theorem aft_0 (P : PO) (n : Nat) (w : SV) : aft P n w 0 = w 0 + n := by
  induction n with
  | zero => rfl
  | succ n ih =>
    have : aft P (n + 1) w 0 = aft P n w 0 + 1 := pas_0 P (aft P n w)
    rw [this, ih]
    rfl
theorem wfs_aft {P : PO} {w : SV} (hP : WFP P) (hw : WFS P w) (n : Nat) (hd : w 0 + n < 2 ^ 20) : WFS P (aft P n w) := by
  induction n with
  | zero => exact hw
  | succ n ih =>
    exact wfs_pas hP (ih (by omega)) (by rw [show itf (fun _ => pas P) n w 0 = _ from aft_0 P n w]; omega)
