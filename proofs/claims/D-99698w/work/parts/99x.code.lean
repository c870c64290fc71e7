/-! ===== office: what a row of the reference's code comes to ===== -/
section CODE
variable {A B : Nat → Int32} {σ : MS} {p p1 p2 : Nat} {E E1 E2 : EX}
theorem M_works_eq {o : Nat} (h1 : 4 ≤ o) (h2 : o ≤ 11) (a b : Int32) : M_works (i3 o) a b = some (wk o a b) := by
  have : o = 4 ∨ o = 5 ∨ o = 6 ∨ o = 7 ∨ o = 8 ∨ o = 9 ∨ o = 10 ∨ o = 11 := by omega
  rcases this with rfl | rfl | rfl | rfl | rfl | rfl | rfl | rfl
  · show M_works 4 a b = some (if a = 0 then 0 else if b = 0 then 0 else 1)
    unfold M_works
    rw [if_pos (show (4 : Int32) = 4 from rfl)]
    split
    · rfl
    · split <;> rfl
  · show M_works 5 a b = some (if a = 0 then (if b = 0 then 0 else 1) else 1)
    unfold M_works
    rw [if_neg (show ¬ (5 : Int32) = 4 by decide), if_pos (show (5 : Int32) = 5 from rfl)]
    split
    · split <;> rfl
    · rfl
  · show M_works 6 a b = some (if a < b then 1 else 0)
    unfold M_works
    rw [if_neg (show ¬ (6 : Int32) = 4 by decide), if_neg (show ¬ (6 : Int32) = 5 by decide), if_pos (show (6 : Int32) = 6 from rfl)]
    split <;> rfl
  · show M_works 7 a b = some (if a = b then 1 else 0)
    unfold M_works
    rw [if_neg (show ¬ (7 : Int32) = 4 by decide), if_neg (show ¬ (7 : Int32) = 5 by decide), if_neg (show ¬ (7 : Int32) = 6 by decide), if_pos (show (7 : Int32) = 7 from rfl)]
    split <;> rfl
  · rfl
  · rfl
  · rfl
  · show M_works 11 a b = some (if b = 0 then 0 else a / b)
    unfold M_works idv
    rw [if_neg (show ¬ (11 : Int32) = 4 by decide), if_neg (show ¬ (11 : Int32) = 5 by decide), if_neg (show ¬ (11 : Int32) = 6 by decide), if_neg (show ¬ (11 : Int32) = 7 by decide), if_neg (show ¬ (11 : Int32) = 8 by decide), if_neg (show ¬ (11 : Int32) = 9 by decide), if_neg (show ¬ (11 : Int32) = 10 by decide)]
    split
    · rfl
    · rfl
/-- the code from p to p' puts one value on the pile -/
def Pus (A : Nat → Int32) (p p' : Nat) (E : EX) : Prop := p + 2 ≤ p' ∧ ∀ (σ : MS) (m : Nat), (∀ q, p ≤ q → q < p' → ma σ 11 q = A q) → 2 * m + (p' - p) ≤ 1900 → p' ≤ 1400 → ∃ g, o_loop M_reckons_L4 (i3 m, i3 p, σ) = o_loop M_reckons_L4 (i3 (m + 1), i3 p', sX σ 48 g) ∧ (∀ i, i < m → g i = ma σ 48 i) ∧ g m = E (ma σ 47)
theorem Pus_congr (h : Pus A p p1 E) (e : ∀ q, p ≤ q → q < p1 → B q = A q) : Pus B p p1 E := by
  refine ⟨h.1, fun σ m h1 h2 h3 => h.2 σ m (fun q q1 q2 => ?_) h2 h3⟩
  rw [h1 q q1 q2, e q q1 q2]
theorem Pus_E (h : Pus A p p1 E) (e : E = E1) : Pus A p p1 E1 := by rw [← e]; exact h
theorem sa_sX {i : Nat} {v : Int32} : sa σ 48 i v = sX σ 48 (upd (ma σ 48) i v) := by
  unfold sa sX ma
  congr 2
  funext q
  by_cases e : q = 48
  · rw [if_pos e, if_pos e, e]
  · rw [if_neg e, if_neg e]
theorem sX_sX {g g' : Nat → Int32} : sX (sX σ 48 g) 48 g' = sX σ 48 g' := by
  unfold sX
  congr 2
  funext q
  by_cases e : q = 48
  · rw [if_pos e, if_pos e]
  · rw [if_neg e, if_neg e]
    dsimp only
    rw [if_neg e]
theorem ma_sX {g : Nat → Int32} : ma (sX σ 48 g) 48 = g := by
  unfold sX ma
  dsimp only
  rw [if_pos rfl]
theorem ma_sXn {g : Nat → Int32} {j : Nat} (h : j ≠ 48) : ma (sX σ 48 g) j = ma σ j := by
  unfold sX ma
  dsimp only
  rw [if_neg h]
theorem upd_e {f : Nat → Int32} {i : Nat} {v : Int32} : upd f i v i = v := if_pos rfl
theorem upd_n {f : Nat → Int32} {i j : Nat} {v : Int32} (h : j ≠ i) : upd f i v j = f j := if_neg h
theorem i3_dec (k : Nat) : i3 (k + 1) + (-1) = i3 k := by
  have h := i3_sub (a := k + 1) (b := 1) (by omega)
  rw [show k + 1 - 1 = k by omega] at h
  rw [← h, Int32.sub_eq_add_neg]
  rfl
theorem i3_dec1 (k : Nat) : i3 (k + 1) - 1 = i3 k := by
  have h := i3_sub (a := k + 1) (b := 1) (by omega)
  rw [show k + 1 - 1 = k by omega] at h
  exact h
theorem L4_go {m : Nat} {c : Nat} (hA : ma σ 11 p = i3 c) (hp : p < 1400) (hc : c < 2 ^ 31) (h0 : c ≠ 0) {z : Int32 × Int32 × MS}
    (hz : ((if i3 c = 1 then (M_reckons_J36 (i3 m, i3 p, σ) (i3 c)) else if i3 c = 2 then (M_reckons_J36 (i3 m, i3 p, σ) (i3 c)) else if i3 c = 3 then
            ((ald σ 48 (i3 m - 1)).bind fun v22 => ((if v22 = 0 then (some 1) else (some 0) : Option Int32)).bind fun r23 => (ast σ 48 (i3 m - 1) r23).bind fun s24 => some (i3 m, (i3 p + 1), s24))
          else ((ald σ 48 ((i3 m + (-1)) - 1)).bind fun v18 => (ald σ 48 (i3 m + (-1))).bind fun v19 => (M_works (i3 c) v18 v19).bind fun q20 => (ast σ 48 ((i3 m + (-1)) - 1) q20).bind fun s21 => some ((i3 m + (-1)), (i3 p + 1), s21))) : Option (Int32 × Int32 × MS)) = some z) :
    o_loop M_reckons_L4 (i3 m, i3 p, σ) = o_loop M_reckons_L4 z := by
  rw [o_loop_eq]
  have e : M_reckons_L4 (i3 m, i3 p, σ) = some (.inl z) := by
    unfold M_reckons_L4
    dsimp only
    rw [ald_at rfl (show p < mlen 11 from hp) hA, Option.bind_some, if_neg (fun x => h0 ((i3_eq0 hc).mp x)), Option.bind_some]
    rw [show (if i3 c = 1 then (M_reckons_J36 (i3 m, i3 p, σ) (i3 c)) else if i3 c = 2 then (M_reckons_J36 (i3 m, i3 p, σ) (i3 c)) else if i3 c = 3 then _ else _ : Option (Int32 × Int32 × MS)) = some z from hz, Option.bind_some]
  rw [e]
  rfl
theorem Pus_num {v : Int32} (h1 : A p = 1) (h2 : A (p + 1) = v) : Pus A p (p + 2) (fun _ => v) := by
  refine ⟨Nat.le_refl _, fun σ m ha hm hp => ⟨upd (ma σ 48) m v, ?_, fun i hi => upd_n (by omega), upd_e⟩⟩
  have a1 : ma σ 11 p = i3 1 := (ha p (Nat.le_refl _) (by omega)).trans h1
  have a2 : ma σ 11 (p + 1) = v := (ha (p + 1) (by omega) (by omega)).trans h2
  refine L4_go (c := 1) a1 (by omega) (by decide) (by decide) ?_
  rw [if_pos (by decide)]
  unfold M_reckons_J36
  rw [if_pos (by decide)]
  dsimp only
  rw [ald_at (i3_succ p) (show p + 1 < mlen 11 by show p + 1 < 1400; omega) a2, Option.bind_some, Option.bind_some, ast_i3 (show m < mlen 48 by show m < 950; omega), Option.bind_some, sa_sX, i3_succ, i3_succ, i3_succ]
theorem Pus_val {k : Nat} (h1 : A p = 2) (h2 : A (p + 1) = i3 k) (hk : k < 9) : Pus A p (p + 2) (fun f => f k) := by
  refine ⟨Nat.le_refl _, fun σ m ha hm hp => ⟨upd (ma σ 48) m (ma σ 47 k), ?_, fun i hi => upd_n (by omega), upd_e⟩⟩
  have a1 : ma σ 11 p = i3 2 := (ha p (Nat.le_refl _) (by omega)).trans h1
  have a2 : ma σ 11 (p + 1) = i3 k := (ha (p + 1) (by omega) (by omega)).trans h2
  refine L4_go (c := 2) a1 (by omega) (by decide) (by decide) ?_
  rw [if_neg (by decide), if_pos (by decide)]
  unfold M_reckons_J36
  rw [if_neg (by decide)]
  dsimp only
  rw [ald_at (i3_succ p) (show p + 1 < mlen 11 by show p + 1 < 1400; omega) a2, Option.bind_some, ald_at rfl (show k < mlen 47 from hk) rfl, Option.bind_some, Option.bind_some, ast_i3 (show m < mlen 48 by show m < 950; omega), Option.bind_some, sa_sX, i3_succ, i3_succ, i3_succ]
theorem Pus_not (hE : Pus A p p1 E) (h3 : A p1 = 3) : Pus A p (p1 + 1) (fun f => if E f = 0 then 1 else 0) := by
  refine ⟨by have := hE.1; omega, fun σ m ha hm hp => ?_⟩
  have hl := hE.1
  obtain ⟨g, g1, g2, g3⟩ := hE.2 σ m (fun q q1 q2 => ha q q1 (by omega)) (by omega) (by omega)
  refine ⟨upd g m (if E (ma σ 47) = 0 then 1 else 0), ?_, fun i hi => by rw [upd_n (by omega)]; exact g2 i hi, upd_e⟩
  rw [g1]
  have a1 : ma (sX σ 48 g) 11 p1 = i3 3 := by rw [ma_sXn (by decide)]; exact (ha p1 (by omega) (by omega)).trans h3
  refine L4_go (c := 3) a1 (by omega) (by decide) (by decide) ?_
  rw [if_neg (by decide), if_neg (by decide), if_pos (by decide), i3_dec1, ald_at rfl (show m < mlen 48 by show m < 950; omega) (show ma (sX σ 48 g) 48 m = E (ma σ 47) by rw [ma_sX]; exact g3), Option.bind_some]
  have e : (if E (ma σ 47) = 0 then some 1 else some 0 : Option Int32) = some (if E (ma σ 47) = 0 then 1 else 0) := by split <;> rfl
  rw [e, Option.bind_some, ast_i3 (show m < mlen 48 by show m < 950; omega), Option.bind_some, sa_sX, ma_sX, sX_sX, i3_succ]
theorem Pus_bin {o : Nat} (hE1 : Pus A p p1 E1) (hE2 : Pus A p1 p2 E2) (ho : A p2 = i3 o) (o1 : 4 ≤ o) (o2 : o ≤ 11) : Pus A p (p2 + 1) (fun f => wk o (E1 f) (E2 f)) := by
  have hl1 := hE1.1
  have hl2 := hE2.1
  refine ⟨by omega, fun σ m ha hm hp => ?_⟩
  obtain ⟨g, g1, g2, g3⟩ := hE1.2 σ m (fun q q1 q2 => ha q q1 (by omega)) (by omega) (by omega)
  obtain ⟨k, k1, k2, k3⟩ := hE2.2 (sX σ 48 g) (m + 1) (fun q q1 q2 => by rw [ma_sXn (by decide)]; exact ha q (by omega) (by omega)) (by omega) (by omega)
  rw [ma_sXn (by decide)] at k3
  refine ⟨upd k m (wk o (E1 (ma σ 47)) (E2 (ma σ 47))), ?_, fun i hi => by
    rw [upd_n (by omega), k2 i (by omega), ma_sX]; exact g2 i hi, upd_e⟩
  rw [g1, k1, sX_sX]
  have a1 : ma (sX σ 48 k) 11 p2 = i3 o := by rw [ma_sXn (by decide)]; exact (ha p2 (by omega) (by omega)).trans ho
  refine L4_go (c := o) a1 (by omega) (by omega) (by omega) ?_
  have n1 : ¬ i3 o = 1 := fun x => by have := (i3_inj (b := 1) (by omega) (by decide)).mp x; omega
  have n2 : ¬ i3 o = 2 := fun x => by have := (i3_inj (b := 2) (by omega) (by decide)).mp x; omega
  have n3 : ¬ i3 o = 3 := fun x => by have := (i3_inj (b := 3) (by omega) (by decide)).mp x; omega
  have v1 : ma (sX σ 48 k) 48 m = E1 (ma σ 47) := by rw [ma_sX, k2 m (by omega), ma_sX]; exact g3
  have v2 : ma (sX σ 48 k) 48 (m + 1) = E2 (ma σ 47) := by rw [ma_sX]; exact k3
  rw [if_neg n1, if_neg n2, if_neg n3, i3_dec, i3_dec1, ald_at rfl (show m < mlen 48 by show m < 950; omega) v1, Option.bind_some, ald_at rfl (show m + 1 < mlen 48 by show m + 1 < 950; omega) v2, Option.bind_some, M_works_eq o1 o2, Option.bind_some, ast_i3 (show m < mlen 48 by show m < 950; omega), Option.bind_some, sa_sX, ma_sX, sX_sX, i3_succ]
/-- a whole expression's code -/
theorem Pus_end (hE : Pus A p p1 E) (h0 : A p1 = 0) (hp : p1 < 1400) (ha : ∀ q, p ≤ q → q ≤ p1 → ma σ 11 q = A q) : ∃ g, M_reckons σ (i3 p) = some (E (ma σ 47), sX σ 48 g) := by
  obtain ⟨g, g1, g2, g3⟩ := hE.2 σ 0 (fun q q1 q2 => ha q q1 (by omega)) (by omega) (by omega)
  refine ⟨g, ?_⟩
  have hl := hE.1
  have a1 : ma (sX σ 48 g) 11 p1 = 0 := by rw [ma_sXn (by decide)]; exact (ha p1 (by omega) (Nat.le_refl _)).trans h0
  unfold M_reckons
  rw [show o_loop M_reckons_L4 (0, i3 p, σ) = _ from g1]
  have e : o_loop M_reckons_L4 (i3 (0 + 1), i3 p1, sX σ 48 g) = some (sX σ 48 g) := by
    rw [o_loop_eq]
    have : M_reckons_L4 (i3 (0 + 1), i3 p1, sX σ 48 g) = some (.inr (sX σ 48 g)) := by
      unfold M_reckons_L4
      dsimp only
      rw [ald_at rfl (show p1 < mlen 11 from hp) a1, Option.bind_some, if_pos rfl]
    rw [this]
    rfl
  rw [e, Option.bind_some, ald_at (x := 0) (n := 0) rfl (show 0 < mlen 48 by decide) (show ma (sX σ 48 g) 48 0 = E (ma σ 47) by rw [ma_sX]; exact g3), Option.bind_some]
theorem Pus_MX (hE : Pus A p p1 E) (h0 : A p1 = 0) (hp : p1 < 1400) (ha : ∀ q, p ≤ q → q ≤ p1 → ma σ 11 q = A q) : MX σ (i3 p) E := by
  intro σ' e
  exact Pus_end hE h0 hp (fun q q1 q2 => by rw [e]; exact ha q q1 q2)
end CODE
