/-! ===== office: a token; the component's side ===== -/
theorem i3_nl {a c : Nat} {x : Int32} (hx : x = i3 c) (ha : a < 2 ^ 31) (hc : c < 2 ^ 31) (h : ¬ a = c) : ¬ i3 a = x := by
  rw [hx, i3_inj ha hc]
  exact h
section LEXC
variable {K : Nat → Nat} {h h' : CH} {T : Nat → Nat} {n b rd nm : Nat} {q : Nat → Nat} {d : Int32}
theorem hup_self {a : Nat} {e : CE} (x : h a = some e) : hup h a e = h := by
  funext p
  unfold hup
  by_cases ep : p = a
  · rw [if_pos ep, ep, x]
  · rw [if_neg ep]
theorem hup_hup {a : Nat} {e e' : CE} : hup (hup h a e) a e' = hup h a e' := by
  funext p
  unfold hup
  by_cases ep : p = a
  · rw [if_pos ep, if_pos ep]
  · rw [if_neg ep, if_neg ep, if_neg ep]
/-- the reader's cell -/
def rdF (q : Nat → Nat) (n : Int32) (nm : Nat) (a t b e v d : Int32) : List Value := [.int n, .ref (q 1), .ref (q 2), .ref (q 3), .ref (q 4), .ref (q 5), .ref nm, .int a, .int t, .int b, .int e, .int v, .int d, .ref (q 13)]
def TapeC (h : CH) (o : Nat) (T : Nat → Nat) : Prop := ∃ fs tp g, h o = some (.inr (1, fs)) ∧ fs[4]? = some (.ref tp) ∧ h tp = some (.inl (2, 700, .inl g)) ∧ ∀ k, k < 700 → g k = i2b_ (i3 (T k))
theorem TapeC_rd {fs fs' : List Value} {o : Nat} (ht : TapeC h o T) (hr : h rd = some (.inr (4, fs))) : TapeC (hup h rd (.inr (4, fs'))) o T := by
  obtain ⟨fo, tp, g, h1, h2, h3, h4⟩ := ht
  refine ⟨fo, tp, g, ?_, h2, ?_, h4⟩
  · rw [hup_n]
    · exact h1
    · intro x; rw [x, hr] at h1; cases h1
  · rw [hup_n]
    · exact h3
    · intro x; rw [x, hr] at h3; cases h3
theorem i2b_255 : ∀ t : Fin 256, i2b_ (i3 t.val) &&& 255 = i3 t.val := by decide +kernel
theorem i2b_128 : ∀ t : Fin 128, i2b_ (i3 t.val) = i3 t.val := by decide +kernel
theorem i2c_128 : ∀ t : Fin 128, vp_nar .char (i2c_ (i3 t.val)) = i3 t.val := by decide +kernel
theorem i2c_255 : ∀ t : Fin 128, vp_nar .char (vp_nar .char (i2c_ (i3 t.val &&& 255))) = i3 t.val := by decide +kernel
theorem nar_bI (x : Bool) : vp_nar .boolean (bI x) = bI x := by cases x <;> decide
theorem C5_here_eq (ht : TapeC h (q 13) T) (hT : ∀ k, T k < 256) (hn : n ≤ 700) {p : Nat} {t be en v : Int32} (hp : p ≤ 700) (hr : h rd = some (.inr (4, rdF q (i3 n) nm (i3 p) t be en v d))) : C5_here h rd = some (if p < n then i3 (T p) else -1) := by
  obtain ⟨fo, tp, g, h1, h2, h3, h4⟩ := ht
  unfold C5_here
  rw [gI_of hr (k := 7) rfl, Option.bind_some, gI_of hr (k := 0) rfl, Option.bind_some]
  by_cases e : p < n
  · rw [if_pos ((i3_lt (by omega) (by omega)).mpr e), if_pos e, gR_of hr (k := 13) rfl, Option.bind_some, gR_of h1 h2, Option.bind_some, Option.bind_some, aI_of h3 (by omega) (by decide), Option.bind_some, h4 p (by omega), i2b_255 ⟨T p, hT p⟩]
  · rw [if_neg (fun x => e ((i3_lt (by omega) (by omega)).mp x)), if_neg e]
theorem in_bnd {p : Nat} (hT : T p < 256) {a c : Nat} (ha : a < 256) (hc : c < 256) : C1_in (if p < n then i3 (T p) else -1) (i3 a) (i3 c) = some (bI (decide (p < n) && (decide (a ≤ T p) && decide (T p ≤ c)))) := by
  rw [C1_in_eq _ (by omega) (by omega)]
  congr 1
  by_cases e : p < n
  · rw [if_pos e, decide_eq_true e, Bool.true_and]
    congr 1
    unfold inB
    rw [i3_nat (by omega), ← Bool.decide_and]
    apply decide_eq_decide.mpr
    exact ⟨fun x => x.2, fun x => ⟨i3_nn (by omega), x⟩⟩
  · rw [if_neg e, decide_eq_false e, Bool.false_and]
    have : inB (-1) a c = false := by
      unfold inB
      apply decide_eq_false
      rintro ⟨x, -⟩
      exact x (by decide)
    rw [this]
theorem C5_isLetter_eq (ht : TapeC h (q 13) T) (hT : ∀ k, T k < 256) (hn : n ≤ 700) {p : Nat} {t be en v : Int32} (hp : p ≤ 700) (hr : h rd = some (.inr (4, rdF q (i3 n) nm (i3 p) t be en v d))) : vc h rd 4 (C5_isLetter h rd) = some (bI (decide (p < n) && isL (T p))) := by
  rw [vc_of hr]
  unfold C5_isLetter
  rw [vc_of hr, C5_here_eq ht hT hn hp hr, Option.bind_some, show C1_in (if p < n then i3 (T p) else -1) 97 122 = _ from in_bnd (a := 97) (c := 122) (hT p) (by decide) (by decide), Option.bind_some, nar_bI]
  rfl
theorem C5_isDigit_eq (ht : TapeC h (q 13) T) (hT : ∀ k, T k < 256) (hn : n ≤ 700) {p : Nat} {t be en v : Int32} (hp : p ≤ 700) (hr : h rd = some (.inr (4, rdF q (i3 n) nm (i3 p) t be en v d))) : vc h rd 4 (C5_isDigit h rd) = some (bI (decide (p < n) && isD (T p))) := by
  rw [vc_of hr]
  unfold C5_isDigit
  rw [vc_of hr, C5_here_eq ht hT hn hp hr, Option.bind_some, show C1_in (if p < n then i3 (T p) else -1) 48 57 = _ from in_bnd (a := 48) (c := 57) (hT p) (by decide) (by decide), Option.bind_some, nar_bI]
  rfl
/-- field 7 (the place) is moved on -/
theorem rd_7 {p : Int32} {t be en v x : Int32} {N : Int32} : (rdF q N nm p t be en v d).set 7 (.int x) = rdF q N nm x t be en v d := rfl
theorem rd_8 {p : Int32} {t be en v x : Int32} {N : Int32} : (rdF q N nm p t be en v d).set 8 (.int x) = rdF q N nm p x be en v d := rfl
theorem rd_9 {p : Int32} {t be en v x : Int32} {N : Int32} : (rdF q N nm p t be en v d).set 9 (.int x) = rdF q N nm p t x en v d := rfl
theorem rd_10 {p : Int32} {t be en v x : Int32} {N : Int32} : (rdF q N nm p t be en v d).set 10 (.int x) = rdF q N nm p t be x v d := rfl
theorem rd_11 {p : Int32} {t be en v x : Int32} {N : Int32} : (rdF q N nm p t be en v d).set 11 (.int x) = rdF q N nm p t be en x d := rfl
theorem rd_12 {p : Int32} {t be en v x : Int32} {N : Int32} : (rdF q N nm p t be en v d).set 12 (.int x) = rdF q N nm p t be en v x := rfl
theorem rd_6 {p : Int32} {t be en v : Int32} {N : Int32} {x : Nat} : (rdF q N nm p t be en v d).set 6 (va_rf (some x)) = rdF q N x p t be en v d := rfl
theorem rd_p7 {p : Int32} {t be en v x : Int32} {N : Int32} (hr : h rd = some (.inr (4, rdF q N nm p t be en v d))) : pI h rd 4 7 x = some (hup h rd (.inr (4, rdF q N nm x t be en v d))) := pI_of hr (show 7 < 14 by decide)
theorem rd_p8 {p : Int32} {t be en v x : Int32} {N : Int32} (hr : h rd = some (.inr (4, rdF q N nm p t be en v d))) : pI h rd 4 8 x = some (hup h rd (.inr (4, rdF q N nm p x be en v d))) := pI_of hr (show 8 < 14 by decide)
theorem rd_p9 {p : Int32} {t be en v x : Int32} {N : Int32} (hr : h rd = some (.inr (4, rdF q N nm p t be en v d))) : pI h rd 4 9 x = some (hup h rd (.inr (4, rdF q N nm p t x en v d))) := pI_of hr (show 9 < 14 by decide)
theorem rd_p10 {p : Int32} {t be en v x : Int32} {N : Int32} (hr : h rd = some (.inr (4, rdF q N nm p t be en v d))) : pI h rd 4 10 x = some (hup h rd (.inr (4, rdF q N nm p t be x v d))) := pI_of hr (show 10 < 14 by decide)
theorem rd_p11 {p : Int32} {t be en v x : Int32} {N : Int32} (hr : h rd = some (.inr (4, rdF q N nm p t be en v d))) : pI h rd 4 11 x = some (hup h rd (.inr (4, rdF q N nm p t be en x d))) := pI_of hr (show 11 < 14 by decide)
theorem bI_n0 {x : Bool} (hx : x = true) : ¬ bI x = 0 := by rw [hx]; decide
theorem bI_y0 {x : Bool} (hx : x = false) : bI x = 0 := by rw [hx]; rfl
theorem bF {x : Bool} (hx : ¬ x = true) : x = false := by cases x <;> simp_all
/-- blanks -/
theorem C5_nextW_eq (ht : TapeC h (q 13) T) (hT : ∀ k, T k < 256) (hn : n ≤ 700) {p : Nat} {t be en v : Int32} (hp : p ≤ n) (hr : h rd = some (.inr (4, rdF q (i3 n) nm (i3 p) t be en v d))) : o_loop (C5_next_L0 rd) h = some (hup h rd (.inr (4, rdF q (i3 n) nm (i3 (run isW T n 700 p)) t be en v d))) := by
  have hge := run_ge (g := isW) (T := T) (n := n) 700 p
  have hle := run_le (g := isW) (T := T) (n := n) 700 p hp
  obtain ⟨m, hm⟩ : ∃ m, run isW T n 700 p = p + m := ⟨run isW T n 700 p - p, by omega⟩
  have hout := run_out (g := isW) (T := T) (n := n) 700 p (by omega)
  have hin : ∀ i, i < m → p + i < n ∧ isW (T (p + i)) = true := fun i hi => run_in (g := isW) (T := T) (n := n) 700 p (p + i) (by omega) (by omega)
  rw [hm] at hout ⊢
  refine o_for0 (fun i => hup h rd (.inr (4, rdF q (i3 n) nm (i3 (p + i)) t be en v d))) m ?_ (fun i hi => ?_) ?_
  · rw [Nat.add_zero, hup_self hr]
  · obtain ⟨q1, q2⟩ := hin i hi
    have hr2 : hup h rd (.inr (4, rdF q (i3 n) nm (i3 (p + i)) t be en v d)) rd = some (.inr (4, rdF q (i3 n) nm (i3 (p + i)) t be en v d)) := hup_s
    have ht2 := TapeC_rd (fs' := rdF q (i3 n) nm (i3 (p + i)) t be en v d) ht hr
    have hb := hT (p + i)
    unfold C5_next_L0
    rw [vc_of hr2, C5_here_eq ht2 hT hn (by omega) hr2, if_pos q1, Option.bind_some, gI_of hr2 (k := 7) rfl, Option.bind_some, i3_succ, rd_p7 hr2, Option.bind_some, hup_hup]
    by_cases e : T (p + i) = 32
    · rw [if_pos (show i3 (T (p + i)) = 32 by rw [e]; rfl)]
      rfl
    · have e10 : T (p + i) = 10 := by
        unfold isW at q2
        rw [decide_eq_false e, Bool.false_or] at q2
        exact of_decide_eq_true q2
      rw [if_neg (i3_nl (x := 32) (c := 32) rfl (by omega) (by decide) e), Option.bind_some, if_pos (show i3 (T (p + i)) = 10 by rw [e10]; rfl)]
      rfl
  · have hr2 : hup h rd (.inr (4, rdF q (i3 n) nm (i3 (p + m)) t be en v d)) rd = some (.inr (4, rdF q (i3 n) nm (i3 (p + m)) t be en v d)) := hup_s
    have ht2 := TapeC_rd (fs' := rdF q (i3 n) nm (i3 (p + m)) t be en v d) ht hr
    have hb := hT (p + m)
    unfold C5_next_L0
    rw [vc_of hr2, C5_here_eq ht2 hT hn (by omega) hr2, Option.bind_some, Option.bind_some]
    by_cases e : p + m < n
    · have hw : isW (T (p + m)) = false := bF (fun x => hout ⟨e, x⟩)
      unfold isW at hw
      rw [Bool.or_eq_false_iff] at hw
      have w1 := of_decide_eq_false hw.1
      have w2 := of_decide_eq_false hw.2
      rw [if_pos e, if_neg (i3_nl (x := 32) (c := 32) rfl (by omega) (by decide) w1), if_neg (i3_nl (x := 10) (c := 10) rfl (by omega) (by decide) w2)]
    · rw [if_neg e, if_neg (by decide), if_neg (by decide)]
/-- letters -/
theorem C5_nextL_eq (ht : TapeC h (q 13) T) (hT : ∀ k, T k < 256) (hn : n ≤ 700) {p : Nat} {t be en v : Int32} (hp : p ≤ n) (hr : h rd = some (.inr (4, rdF q (i3 n) nm (i3 p) t be en v d))) : o_loop (C5_next_L62 rd) h = some (hup h rd (.inr (4, rdF q (i3 n) nm (i3 (run isL T n 700 p)) t be en v d))) := by
  have hge := run_ge (g := isL) (T := T) (n := n) 700 p
  have hle := run_le (g := isL) (T := T) (n := n) 700 p hp
  obtain ⟨m, hm⟩ : ∃ m, run isL T n 700 p = p + m := ⟨run isL T n 700 p - p, by omega⟩
  have hout := run_out (g := isL) (T := T) (n := n) 700 p (by omega)
  have hin : ∀ i, i < m → p + i < n ∧ isL (T (p + i)) = true := fun i hi => run_in (g := isL) (T := T) (n := n) 700 p (p + i) (by omega) (by omega)
  rw [hm] at hout ⊢
  refine o_for0 (fun i => hup h rd (.inr (4, rdF q (i3 n) nm (i3 (p + i)) t be en v d))) m ?_ (fun i hi => ?_) ?_
  · rw [Nat.add_zero, hup_self hr]
  · obtain ⟨q1, q2⟩ := hin i hi
    have hr2 : hup h rd (.inr (4, rdF q (i3 n) nm (i3 (p + i)) t be en v d)) rd = some (.inr (4, rdF q (i3 n) nm (i3 (p + i)) t be en v d)) := hup_s
    have ht2 := TapeC_rd (fs' := rdF q (i3 n) nm (i3 (p + i)) t be en v d) ht hr
    unfold C5_next_L62
    rw [C5_isLetter_eq ht2 hT hn (by omega) hr2, Option.bind_some, if_neg (bI_n0 (by rw [decide_eq_true q1, q2]; rfl)), gI_of hr2 (k := 7) rfl, Option.bind_some, i3_succ, rd_p7 hr2, Option.bind_some, hup_hup]
    rfl
  · have hr2 : hup h rd (.inr (4, rdF q (i3 n) nm (i3 (p + m)) t be en v d)) rd = some (.inr (4, rdF q (i3 n) nm (i3 (p + m)) t be en v d)) := hup_s
    have ht2 := TapeC_rd (fs' := rdF q (i3 n) nm (i3 (p + m)) t be en v d) ht hr
    unfold C5_next_L62
    rw [C5_isLetter_eq ht2 hT hn (by omega) hr2, Option.bind_some, if_pos (bI_y0 (bF (fun x => by
      rw [Bool.and_eq_true] at x
      exact hout ⟨of_decide_eq_true x.1, x.2⟩)))]
/-- the value of some digits, at most 100000 -/
def cv (T : Nat → Nat) (s : Nat) : Nat → Nat
  | 0 => 0
  | i + 1 => min 100000 (10 * cv T s i + (T (s + i) - 48))
theorem cv_le {s : Nat} : ∀ i, cv T s i ≤ 100000 := by
  intro i
  cases i with
  | zero => exact Nat.zero_le _
  | succ i => exact Nat.min_le_left _ _
theorem cv_dv {s : Nat} : ∀ i, i ≤ 4 → (∀ j, j < i → isD (T (s + j)) = true) → cv T s i = dv T s i := by
  intro i
  induction i with
  | zero => intro _ _; rfl
  | succ i ih =>
    intro hi hd
    have h1 := ih (by omega) (fun j hj => hd j (by omega))
    have h2 := dv_lt (T := T) (s := s) (i + 1) hd
    have h3 : 10 ^ min (i + 1) 4 ≤ 10 ^ 4 := Nat.pow_le_pow_right (by decide) (by omega)
    have h4 : dv T s (i + 1) = 10 * dv T s i + (T (s + i) - 48) := if_pos (by omega)
    show min 100000 (10 * cv T s i + (T (s + i) - 48)) = dv T s (i + 1)
    rw [h1, h4]
    rw [h4] at h2
    omega
theorem C5_nextD_eq (ht : TapeC h (q 13) T) (hT : ∀ k, T k < 256) (hn : n ≤ 700) {p : Nat} {t be en : Int32} (hp : p ≤ n) (hr : h rd = some (.inr (4, rdF q (i3 n) nm (i3 p) t be en 0 d))) : o_loop (C5_next_L102 rd) h = some (hup h rd (.inr (4, rdF q (i3 n) nm (i3 (run isD T n 700 p)) t be en (i3 (cv T p (run isD T n 700 p - p))) d))) := by
  have hge := run_ge (g := isD) (T := T) (n := n) 700 p
  have hle := run_le (g := isD) (T := T) (n := n) 700 p hp
  obtain ⟨m, hm⟩ : ∃ m, run isD T n 700 p = p + m := ⟨run isD T n 700 p - p, by omega⟩
  have hout := run_out (g := isD) (T := T) (n := n) 700 p (by omega)
  have hin : ∀ i, i < m → p + i < n ∧ isD (T (p + i)) = true := fun i hi => run_in (g := isD) (T := T) (n := n) 700 p (p + i) (by omega) (by omega)
  rw [hm] at hout ⊢
  rw [show p + m - p = m by omega]
  refine o_for0 (fun i => hup h rd (.inr (4, rdF q (i3 n) nm (i3 (p + i)) t be en (i3 (cv T p i)) d))) m ?_ (fun i hi => ?_) ?_
  · rw [Nat.add_zero]
    exact (hup_self hr).symm
  · obtain ⟨q1, q2⟩ := hin i hi
    have hr2 : hup h rd (.inr (4, rdF q (i3 n) nm (i3 (p + i)) t be en (i3 (cv T p i)) d)) rd = some (.inr (4, rdF q (i3 n) nm (i3 (p + i)) t be en (i3 (cv T p i)) d)) := hup_s
    have ht2 := TapeC_rd (fs' := rdF q (i3 n) nm (i3 (p + i)) t be en (i3 (cv T p i)) d) ht hr
    have hc := cv_le (T := T) (s := p) i
    have hb := hT (p + i)
    have hd2 := q2
    unfold isD at hd2
    rw [Bool.and_eq_true] at hd2
    have h3 := of_decide_eq_true hd2.1
    have h4 := of_decide_eq_true hd2.2
    have hv : imin 100000 (((10 : Int32) * i3 (cv T p i)) + i3 (T (p + i)) - 48) = i3 (cv T p (i + 1)) := by
      rw [show (10 : Int32) * i3 (cv T p i) = i3 (10 * cv T p i) from i3_mul 10 _, i3_add, show i3 (10 * cv T p i + T (p + i)) - 48 = i3 (10 * cv T p i + T (p + i) - 48) from i3_sub (b := 48) (by omega), show imin 100000 _ = _ from i3_min (a := 100000) (by decide) (by omega)]
      congr 1
      show _ = min 100000 (10 * cv T p i + (T (p + i) - 48))
      congr 1
      omega
    unfold C5_next_L102
    rw [C5_isDigit_eq ht2 hT hn (by omega) hr2, Option.bind_some, if_neg (bI_n0 (by rw [decide_eq_true q1, q2]; rfl)), gI_of hr2 (k := 11) rfl, Option.bind_some, vc_of hr2, C5_here_eq ht2 hT hn (by omega) hr2, if_pos q1, Option.bind_some, hv, rd_p11 hr2, Option.bind_some, hup_hup, gI_of hup_s (k := 7) rfl, Option.bind_some, rd_p7 hup_s, Option.bind_some, hup_hup, i3_succ]
    rfl
  · have hr2 : hup h rd (.inr (4, rdF q (i3 n) nm (i3 (p + m)) t be en (i3 (cv T p m)) d)) rd = some (.inr (4, rdF q (i3 n) nm (i3 (p + m)) t be en (i3 (cv T p m)) d)) := hup_s
    have ht2 := TapeC_rd (fs' := rdF q (i3 n) nm (i3 (p + m)) t be en (i3 (cv T p m)) d) ht hr
    unfold C5_next_L102
    rw [C5_isDigit_eq ht2 hT hn (by omega) hr2, Option.bind_some, if_pos (bI_y0 (bF (fun x => by
      rw [Bool.and_eq_true] at x
      exact hout ⟨of_decide_eq_true x.1, x.2⟩)))]
/-! texts -/
/-- the run's texts and small numbers are where they are, as far as reading goes -/
def KX (K : Nat → Nat) : Prop := ∀ i, i < 18 → sIx K (K (10 + i)) = some i ∧ bIx K (K (30 + i)) = some i
theorem sOk_of {i : Nat} (hi : i < 18) : sOk i = some () := if_pos hi
theorem aNb_K (hK : KX K) {i : Nat} (hi : i < 18) : aNb K h (K (30 + i)) = some (i3 (kLen.getD i 0)) := by
  unfold aNb
  rw [(hK i hi).2]
  rfl
theorem aIb_K (hK : KX K) {i : Nat} (hi : i < 18) (j : Int32) : aIb K h (K (30 + i)) j = if j < 0 ∨ kLen.getD i 0 ≤ j.toNatClampNeg then none else some ((kByt.getD i []).getD j.toNatClampNeg 0) := by
  unfold aIb
  rw [(hK i hi).2]
theorem len_K (hK : KX K) {i : Nat} (hi : i < 18) : CJ8_length K h i = some (i3 (kLen.getD i 0)) := by
  unfold CJ8_length CJ8_coder
  rw [sOk_of hi, Option.bind_some, aNb_K hK hi, Option.bind_some, Option.bind_some, if_neg (by decide), Option.bind_some, Option.bind_some]
  have : ∀ x : Int32, x >>> ((0 : Int32) &&& 31) = x := by
    intro x
    rw [show ((0 : Int32) &&& 31) = 0 from by decide]
    simp
  rw [this]
def ixS (c : Nat) (t : Int32) : Option (Int32 ⊕ Int32) :=
  if t < 9 then ((if t < 0 ∨ 9 ≤ t.toNatClampNeg then none else some (([59, 40, 41, 43, 45, 42, 47, 60, 61] : List Int32).getD t.toNatClampNeg 0) : Option Int32).bind fun v4 => if v4 = (i2b_ (i3 c)) then (some (.inr t)) else (some (.inl (t + 1))))
  else (some (.inr (-1)))
set_option maxRecDepth 8000 in
theorem ixS_all : ∀ c : Fin 256, (o_it (ixS c.val) 12 0).map (fun x => decide (x < 0)) = some (!sgn c.val) := by decide +kernel
theorem ix_K (hK : KX K) {c : Nat} (hc : c < 256) : ∃ x, CJ8_indexOf K h 12 (i3 c) = some x ∧ (decide (x < 0) = !sgn c) := by
  have e1 := ixS_all ⟨c, hc⟩
  dsimp only at e1
  obtain ⟨x, hx, hx2⟩ := Option.map_eq_some_iff.mp e1
  refine ⟨x, ?_, hx2⟩
  have hs : (fun t => CJ9_indexOfChar_L7 K h (K (30 + 12)) (i3 c) 9 t) = ixS c := by
    funext t
    unfold CJ9_indexOfChar_L7 ixS
    rw [aIb_K hK (by decide)]
    rfl
  have hloop : o_loop (CJ9_indexOfChar_L7 K h (K (30 + 12)) (i3 c) 9) 0 = some x := by
    rw [show CJ9_indexOfChar_L7 K h (K (30 + 12)) (i3 c) 9 = ixS c from hs]
    exact o_loop_iff.mpr ⟨12, hx⟩
  have hcan : CJ9_canEncode (i3 c) = some 1 := by
    unfold CJ9_canEncode
    rw [if_neg (i3_nn (by omega)), if_pos ((i3_lel (c := 255) (n := 255) rfl (by omega) (by decide)).mpr (by omega))]
  unfold CJ8_indexOf CJ8_indexOf_2 CJ8_isLatin1
  rw [sOk_of (by decide), Option.bind_some, Option.bind_some, if_neg (by decide), Option.bind_some, if_pos rfl, Option.bind_some, if_neg (by decide), Option.bind_some, Option.bind_some, len_K hK (by decide), Option.bind_some]
  unfold CJ9_indexOf CJ9_indexOfChar
  rw [hcan, Option.bind_some, if_neg (by decide), aNb_K hK (by decide), Option.bind_some]
  rw [show imax 0 0 = 0 from by decide, show imin (i3 (kLen.getD 12 0)) (i3 (kLen.getD 12 0)) = 9 from by decide, if_pos (by decide), hloop]
  rfl
/-- the token behind p is read -/
theorem C5_next_eq (hK : KX K) (ht : TapeC h (q 13) T) (hT : ∀ k, T k < 256) (hn : n ≤ 700) {p : Nat} {t be en v : Int32} (hp : p ≤ n) (hr : h rd = some (.inr (4, rdF q (i3 n) nm (i3 p) t be en v d))) (hb : run isW T n 700 p = b) :
    ∃ v', C5_next K h rd = some (hup h rd (.inr (4, rdF q (i3 n) nm (i3 (tkE T n b)) (i3 (tkK T n b)) (i3 b) (i3 (tkE T n b)) v' d))) ∧ (tkK T n b = 2 → tkE T n b - b ≤ 4 → v' = i3 (vlu T n b)) := by
  have hbn : b ≤ n := by rw [← hb]; exact run_le 700 p hp
  unfold C5_next
  rw [C5_nextW_eq ht hT hn hp hr, hb, Option.bind_some, gI_of hup_s (k := 7) rfl, Option.bind_some, rd_p9 hup_s, Option.bind_some, hup_hup]
  have hr5 : hup h rd (.inr (4, rdF q (i3 n) nm (i3 b) t (i3 b) en v d)) rd = some (.inr (4, rdF q (i3 n) nm (i3 b) t (i3 b) en v d)) := hup_s
  have ht5 := TapeC_rd (fs' := rdF q (i3 n) nm (i3 b) t (i3 b) en v d) ht hr
  have fin : ∀ (e k : Nat) (v' : Int32), ((gI (hup h rd (.inr (4, rdF q (i3 n) nm (i3 e) (i3 k) (i3 b) en v' d))) rd 4 7).bind fun v8 => (pI (hup h rd (.inr (4, rdF q (i3 n) nm (i3 e) (i3 k) (i3 b) en v' d))) rd 4 10 v8).bind fun s9 => some s9) = some (hup h rd (.inr (4, rdF q (i3 n) nm (i3 e) (i3 k) (i3 b) (i3 e) v' d))) := by
    intro e k v'
    rw [gI_of hup_s (k := 7) rfl, Option.bind_some, rd_p10 hup_s, Option.bind_some, hup_hup]
  have hT5 := hT b
  rw [vc_of hr5, C5_here_eq ht5 hT hn (by omega) hr5, Option.bind_some]
  by_cases eb : b < n
  · rw [if_pos eb, if_neg (i3_m1 (by omega)), C5_isLetter_eq ht5 hT hn (by omega) hr5, Option.bind_some]
    by_cases eL : isL (T b) = true
    · have kE : tkE T n b = run isL T n 700 b := by unfold tkE; rw [if_pos eb, if_pos eL]
      have kK : tkK T n b = 1 := by unfold tkK; rw [if_pos eb, if_pos eL]
      rw [if_neg (bI_n0 (by rw [decide_eq_true eb, eL]; rfl)), C5_nextL_eq ht5 hT hn hbn hr5, hup_hup, Option.bind_some, rd_p8 hup_s, Option.bind_some, hup_hup, Option.bind_some, kE, kK]
      exact ⟨v, fin _ 1 v, fun x => absurd x (by decide)⟩
    · rw [if_pos (bI_y0 (by rw [bF eL, Bool.and_false])), C5_isDigit_eq ht5 hT hn (by omega) hr5, Option.bind_some]
      by_cases eD : isD (T b) = true
      · have kE : tkE T n b = run isD T n 700 b := by unfold tkE; rw [if_pos eb, if_neg eL, if_pos eD]
        have kK : tkK T n b = 2 := by unfold tkK; rw [if_pos eb, if_neg eL, if_pos eD]
        rw [if_neg (bI_n0 (by rw [decide_eq_true eb, eD]; rfl)), rd_p11 hr5, hup_hup, Option.bind_some]
        have hr6 : hup h rd (.inr (4, rdF q (i3 n) nm (i3 b) t (i3 b) en 0 d)) rd = some (.inr (4, rdF q (i3 n) nm (i3 b) t (i3 b) en 0 d)) := hup_s
        have ht6 := TapeC_rd (fs' := rdF q (i3 n) nm (i3 b) t (i3 b) en 0 d) ht hr
        rw [C5_nextD_eq ht6 hT hn hbn hr6, hup_hup, Option.bind_some, rd_p8 hup_s, Option.bind_some, hup_hup, Option.bind_some]
        refine ⟨i3 (cv T b (run isD T n 700 b - b)), ?_, fun _ x => ?_⟩
        · rw [kK, kE]
          exact fin _ 2 _
        · rw [kE] at x
          unfold vlu
          rw [if_pos kK, kE, cv_dv _ x]
          have := tk_digits kK
          rw [kE] at this
          exact this
      · have kE : tkE T n b = b + 1 := by unfold tkE; rw [if_pos eb, if_neg eL, if_neg eD]
        have kK : tkK T n b = if sgn (T b) = true then 3 else 4 := by unfold tkK; rw [if_pos eb, if_neg eL, if_neg eD]
        obtain ⟨x, x1, x2⟩ := ix_K (h := hup h rd (.inr (4, rdF q (i3 n) nm (i3 b) t (i3 b) en v d))) hK hT5
        rw [if_pos (bI_y0 (by rw [bF eD, Bool.and_false])), Option.bind_some, sOk_of (by decide), Option.bind_some, x1, Option.bind_some]
        have hk : (if x < 0 then some 4 else some 3 : Option Int32) = some (i3 (if sgn (T b) = true then 3 else 4)) := by
          by_cases es : sgn (T b) = true
          · rw [es] at x2
            rw [if_neg (of_decide_eq_false x2), if_pos es]
            rfl
          · rw [bF es] at x2
            rw [if_pos (of_decide_eq_true x2), if_neg es]
            rfl
        rw [hk, Option.bind_some, rd_p8 hr5, Option.bind_some, hup_hup, gI_of hup_s (k := 7) rfl, Option.bind_some, rd_p7 hup_s, Option.bind_some, hup_hup, i3_succ, Option.bind_some, ← kK, kE]
        refine ⟨v, fin _ _ v, fun y => ?_⟩
        rw [kK] at y
        split at y <;> cases y
  · have kE : tkE T n b = b := by unfold tkE; rw [if_neg eb]
    have kK : tkK T n b = 0 := by unfold tkK; rw [if_neg eb]
    rw [if_neg eb, if_pos rfl, rd_p8 hr5, Option.bind_some, hup_hup, Option.bind_some, kE, kK]
    exact ⟨v, fin _ 0 v, fun x => absurd x (by decide)⟩
/-- the reader stands at the token that begins at b -/
def LR (q : Nat → Nat) (h : CH) (rd : Nat) (T : Nat → Nat) (n b nm : Nat) (d : Int32) : Prop := (b ≤ n ∧ n ≤ 700 ∧ ∀ k, T k < 256) ∧ TapeC h (q 13) T ∧ ∃ v, h rd = some (.inr (4, rdF q (i3 n) nm (i3 (tkE T n b)) (i3 (tkK T n b)) (i3 b) (i3 (tkE T n b)) v d)) ∧ (tkK T n b = 2 → tkE T n b - b ≤ 4 → v = i3 (vlu T n b))
theorem LR_next (hK : KX K) (hL : LR q h rd T n b nm d) : ∃ e, vc h rd 4 (C5_next K h rd) = some (hup h rd (.inr (4, e))) ∧ LR q (hup h rd (.inr (4, e))) rd T n (nxb T n b) nm d := by
  obtain ⟨⟨h1, h2, h3⟩, h4, v, h5, h6⟩ := hL
  obtain ⟨v', e1, e2⟩ := C5_next_eq hK h4 h3 h2 (tkE_le h1) h5 rfl
  exact ⟨_, by rw [vc_of h5]; exact e1, ⟨nxt_le h1, h2, h3⟩, TapeC_rd h4 h5, v', hup_s, e2⟩
theorem LR_8 (hL : LR q h rd T n b nm d) : gI h rd 4 8 = some (i3 (tkK T n b)) := by
  obtain ⟨_, _, v, h5, _⟩ := hL
  exact gI_of h5 (k := 8) rfl
theorem tkK_i {k : Nat} {x : Int32} (hx : x = i3 k) (hk : k ≤ 4) : i3 (tkK T n b) = x ↔ tkK T n b = k := by
  have := tkK_le (T := T) (n := n) (b := b)
  rw [hx]
  exact i3_inj (by omega) (by omega)
theorem LR_sg (hL : LR q h rd T n b nm d) {c : Nat} {x : Int32} (hx : x = i3 c) (hc : c < 128) : vc h rd 4 (C5_isSign h rd x) = some (bI (sg T n b c)) := by
  obtain ⟨⟨h1, h2, h3⟩, ⟨fo, tp, g, t1, t2, t3, t4⟩, v, h5, h6⟩ := hL
  rw [vc_of h5]
  unfold C5_isSign sg
  rw [gI_of h5 (k := 8) rfl, Option.bind_some]
  by_cases e : tkK T n b = 3
  · have hlt : b < n := tk_lt (by rw [e]; decide)
    have hs : sgn (T b) = true := by
      unfold tkK at e
      rw [if_pos hlt] at e
      split at e
      · omega
      · split at e
        · omega
        · split at e
          · assumption
          · omega
    have h128 : T b < 128 := by
      unfold sgn at hs
      simp only [Bool.or_eq_true, decide_eq_true_iff] at hs
      omega
    rw [if_pos ((tkK_i (k := 3) (x := 3) rfl (by decide)).mpr e), gR_of h5 (k := 13) rfl, Option.bind_some, gR_of t1 t2, Option.bind_some, gI_of h5 (k := 9) rfl, Option.bind_some, aI_of t3 (by omega) (by decide), Option.bind_some, t4 b (by omega), i2b_128 ⟨T b, h128⟩, decide_eq_true e, Bool.true_and, hx]
    by_cases ec : T b = c
    · rw [if_pos (congrArg i3 ec), decide_eq_true ec]; rfl
    · rw [if_neg (fun x => ec ((i3_inj (by omega) (by omega)).mp x)), decide_eq_false ec]; rfl
  · rw [if_neg (fun x => e ((tkK_i (k := 3) (x := 3) rfl (by decide)).mp x)), decide_eq_false e]; rfl
theorem sg_eq {c : Nat} (hs : sg T n b c = true) : tkK T n b = 3 ∧ T b = c := by
  unfold sg at hs
  rw [Bool.and_eq_true] at hs
  exact ⟨of_decide_eq_true hs.1, of_decide_eq_true hs.2⟩
theorem LR_sign (hK : KX K) (hL : LR q h rd T n b nm d) {c : Nat} (hc : c < 128) (hs : sg T n b c = true) : ∃ e, vc h rd 4 (C5_sign K h rd) = some (i3 c, hup h rd (.inr (4, e))) ∧ LR q (hup h rd (.inr (4, e))) rd T n (nxb T n b) nm d := by
  obtain ⟨e, e1, e2⟩ := LR_next hK hL
  obtain ⟨s1, s2⟩ := sg_eq hs
  obtain ⟨⟨h1, h2, h3⟩, ⟨fo, tp, g, t1, t2, t3, t4⟩, v, h5, h6⟩ := hL
  have hlt : b < n := tk_lt (by rw [s1]; decide)
  refine ⟨e, ?_, e2⟩
  rw [vc_of h5]
  unfold C5_sign
  rw [gR_of h5 (k := 13) rfl, Option.bind_some, gR_of t1 t2, Option.bind_some, gI_of h5 (k := 9) rfl, Option.bind_some, aI_of t3 (by omega) (by decide), Option.bind_some, e1, Option.bind_some, t4 b (by omega), s2, i2b_128 ⟨c, hc⟩, i2c_128 ⟨c, hc⟩]
/-- which known word a text is -/
def mpT (i : Nat) : Nat := [11, 12, 13, 4, 6, 7, 8, 5, 0, 1, 2, 3, 99, 16, 14, 15, 9, 10].getD i 99
theorem mp_all : ∀ i : Fin 18, i.val ≠ 12 → kLen.getD i.val 0 = (wd (mpT i.val)).length ∧ mpT i.val < 17 ∧ ∀ j : Fin 6, j.val < (wd (mpT i.val)).length → (kByt.getD i.val []).getD j.val 0 = i3 ((wd (mpT i.val)).getD j.val 0) ∧ (wd (mpT i.val)).getD j.val 0 < 128 := by decide +kernel
theorem LR_is (hK : KX K) (hL : LR q h rd T n b nm d) {i : Nat} (hi : i < 18) (hi2 : i ≠ 12) : vc h rd 4 (C5_is K h rd i) = some (bI (isWd T n b (wd (mpT i)))) := by
  obtain ⟨⟨h1, h2, h3⟩, ⟨fo, tp, g, t1, t2, t3, t4⟩, v, h5, h6⟩ := hL
  obtain ⟨m1, m2, m3⟩ := mp_all ⟨i, hi⟩ hi2
  dsimp only at m1 m2 m3
  have hE := tkE_le (T := T) h1
  have hge := tkE_ge (T := T) (n := n) (b := b)
  have hl6 := wd_len m2
  rw [vc_of h5]
  unfold C5_is
  rw [gI_of h5 (k := 8) rfl, Option.bind_some]
  by_cases e : tkK T n b = 1
  · rw [if_pos ((tkK_i (k := 1) (x := 1) rfl (by decide)).mpr e), sOk_of hi, Option.bind_some, len_K hK hi, Option.bind_some, gI_of h5 (k := 10) rfl, Option.bind_some, gI_of h5 (k := 9) rfl, Option.bind_some, i3_sub hge, m1]
    by_cases el : (wd (mpT i)).length = tkE T n b - b
    · rw [if_pos (by rw [el])]
      obtain ⟨r, r1, r2⟩ := o_inv (step := C5_is_L28 K h rd i) (fun k t => t = i3 k ∧ ∀ j, j < k → T (b + j) = (wd (mpT i)).getD j 0) (fun r => r = bI (isWd T n b (wd (mpT i)))) (wd (mpT i)).length (fun k t hk hP => by
        obtain ⟨rfl, hP2⟩ := hP
        obtain ⟨c1, c2⟩ := m3 ⟨k, by omega⟩ hk
        dsimp only at c1 c2
        have hTk := h3 (b + k)
        have step1 : C5_is_L28 K h rd i (i3 k) = if i3 ((wd (mpT i)).getD k 0) = i3 (T (b + k)) then some (.inl (i3 (k + 1))) else some (.inr 0) := by
          unfold C5_is_L28
          have ech : CJ8_charAt K h i (i3 k) = some (i3 ((wd (mpT i)).getD k 0)) := by
            unfold CJ8_charAt CJ8_isLatin1 CJ9_charAt CJ8_checkIndex CJ11_checkIndex
            rw [sOk_of hi, Option.bind_some, if_neg (by decide), Option.bind_some, if_pos rfl, Option.bind_some, if_neg (by decide), Option.bind_some, aNb_K hK hi, Option.bind_some, m1, if_neg (i3_nn (by omega)), if_pos ((i3_lt (by omega) (by omega)).mpr hk), Option.bind_some, Option.bind_some, aIb_K hK hi, if_neg (by rw [i3_in (by omega), m1]; omega), i3_nat (by omega), Option.bind_some, c1, Option.bind_some, i2c_255 ⟨_, c2⟩]
          rw [sOk_of hi, Option.bind_some, len_K hK hi, Option.bind_some, m1, if_pos ((i3_lt (by omega) (by omega)).mpr hk), Option.bind_some, ech, Option.bind_some, gR_of h5 (k := 13) rfl, Option.bind_some, gR_of t1 t2, Option.bind_some, gI_of h5 (k := 9) rfl, Option.bind_some, i3_add, aI_of t3 (by omega) (by decide), Option.bind_some, t4 (b + k) (by omega), i2b_255 ⟨_, hTk⟩, i3_succ]
        rw [step1]
        by_cases ec : T (b + k) = (wd (mpT i)).getD k 0
        · rw [if_pos (by rw [ec])]
          refine .inl ⟨_, rfl, rfl, fun j hj => ?_⟩
          by_cases ej : j = k
          · rw [ej]; exact ec
          · exact hP2 j (by omega)
        · rw [if_neg (fun x => ec ((i3_inj (by omega) (by omega)).mp x).symm)]
          refine .inr ⟨_, rfl, ?_⟩
          rw [bF (fun x => ec ((isWd_iff.mp x).2.2 k hk))]
          rfl) (fun t hP => by
        obtain ⟨rfl, hP2⟩ := hP
        unfold C5_is_L28
        rw [sOk_of hi, Option.bind_some, len_K hK hi, Option.bind_some, m1, if_neg (fun x => Nat.lt_irrefl _ ((i3_lt (by omega) (by omega)).mp x))]
        refine ⟨_, rfl, ?_⟩
        rw [isWd_iff.mpr ⟨e, el.symm, hP2⟩]
        rfl) 0 0 (Nat.zero_le _) ⟨rfl, fun j hj => absurd hj (Nat.not_lt_zero _)⟩
      rw [r1, r2]
    · rw [if_neg (fun x => el ((i3_inj (by omega) (by omega)).mp x)), bF (fun x => el (isWd_iff.mp x).2.1.symm)]
      rfl
  · rw [if_neg (fun x => e ((tkK_i (k := 1) (x := 1) rfl (by decide)).mp x)), bF (fun x => e (isWd_iff.mp x).1)]
    rfl
/-- a list of texts -/
def TXA (K : Nat → Nat) (h : CH) (a : Nat) (L : List Nat) : Prop := ∃ g, h a = some (.inl (5, L.length, .inr (.inr (.inr (.inr g))))) ∧ ∀ i, i < L.length → g i = some (K (10 + L.getD i 0))
/-- which one of a list of texts the token is -/
def whi (T : Nat → Nat) (n b : Nat) (L : List Nat) : Option Nat := (List.range L.length).find? fun i => isWd T n b (wd (mpT (L.getD i 0)))
theorem LR_which (hK : KX K) (hL : LR q h rd T n b nm d) {a : Nat} {L : List Nat} (hA : TXA K h a L) (hl : L.length ≤ 6) (hLm : ∀ i, i < L.length → L.getD i 0 < 18 ∧ L.getD i 0 ≠ 12) : vc h rd 4 (C5_which K h rd a) = some (match whi T n b L with
    | some i => i3 i
    | none => -1) := by
  obtain ⟨g, a1, a2⟩ := hA
  have hst : ∀ i, i < L.length → C5_which_L2 K h rd a (i3 i) = if isWd T n b (wd (mpT (L.getD i 0))) = true then some (.inr (i3 i)) else some (.inl (i3 (i + 1))) := by
    intro i hi
    obtain ⟨m1, m2⟩ := hLm i hi
    unfold C5_which_L2
    rw [aN_of a1, Option.bind_some, if_pos ((i3_lt (by omega) (by omega)).mpr hi), aQ_of a1 hi (by omega), Option.bind_some, a2 i hi, Option.bind_some, (hK _ m1).1, Option.bind_some, LR_is hK hL m1 m2, Option.bind_some, i3_succ]
    by_cases e : isWd T n b (wd (mpT (L.getD i 0))) = true
    · rw [if_neg (bI_n0 e), if_pos e]
    · rw [if_pos (bI_y0 (bF e)), if_neg e]
  have hend : C5_which_L2 K h rd a (i3 L.length) = some (.inr (-1)) := by
    unfold C5_which_L2
    rw [aN_of a1, Option.bind_some, if_neg (fun x => Nat.lt_irrefl _ ((i3_lt (by omega) (by omega)).mp x))]
  have hv : vc h rd 4 (C5_which K h rd a) = C5_which K h rd a := by
    obtain ⟨_, _, v, h5, _⟩ := hL
    exact vc_of h5
  rw [hv]
  unfold C5_which
  cases e : whi T n b L with
  | none =>
    have hno := List.find?_eq_none.mp e
    refine o_for0 (fun i => i3 i) L.length rfl (fun i hi => ?_) hend
    rw [hst i hi, if_neg (hno i (List.mem_range.mpr hi))]
  | some j =>
    have hj := List.mem_range.mp (List.mem_of_find?_eq_some e)
    have hj2 : isWd T n b (wd (mpT (L.getD j 0))) = true := by simpa using List.find?_some e
    obtain ⟨as, bs, hab, hno⟩ := (List.find?_eq_some_iff_append.mp e).2
    have hlen : as.length = j := by
      have h1 := congrArg (fun l => l[as.length]?) hab
      simp at h1
      have h2 : as.length < L.length := by
        apply Classical.byContradiction
        intro x
        have := congrArg List.length hab
        simp at this
        omega
      rw [List.getElem?_range h2] at h1
      exact Option.some.inj h1
    refine o_for0 (fun i => i3 i) j rfl (fun i hi => ?_) ?_
    · have hmem : i ∈ as := by
        have h1 : (List.range L.length)[i]? = some i := List.getElem?_range (by omega)
        rw [hab, List.getElem?_append_left (by omega)] at h1
        exact List.mem_of_getElem? h1
      have := hno i hmem
      rw [hst i (by omega), if_neg (by simpa using this)]
    · rw [hst j hj, if_pos hj2]
end LEXC
