/-! ===== the component: a service as it lies (all its places), be, copy ===== -/
def SC (h : CH) (o s : Nat) (A : Nat → Nat) (g : Nat → Nat → Int32) (d : Int32) : Prop := h s = some (.inr (3, [.ref (A 0), .ref (A 1), .ref (A 2), .ref (A 3), .int d, .ref o])) ∧ h (A 0) = some (.inl (0, 9, .inl (g 0))) ∧ h (A 1) = some (.inl (0, 9, .inl (g 1))) ∧ h (A 2) = some (.inl (0, 9, .inl (g 2))) ∧ h (A 3) = some (.inl (0, 6, .inl (g 3)))
/-- its places hold a row -/
def SA (P : PO) (g : Nat → Nat → Int32) (d : Int32) (w : SV) : Prop := (∀ k, k < pN P → g 0 k = i3 (w (1 + k))) ∧ (∀ k, k < pN P → g 1 k = i3 (w (10 + k))) ∧ (∀ k, k < pN P → g 2 k = atC (w (19 + k))) ∧ (∀ c, c < pM P → g 3 c = i3 (w (28 + c))) ∧ d = i3 (w 0)
theorem SX_of {h : CH} {o s : Nat} {P : PO} {A : Nat → Nat} {g : Nat → Nat → Int32} {d : Int32} {w : SV} (h1 : SC h o s A g d) (h2 : SA P g d w) (hw : WFS P w) : SX h o P s A w := by
  obtain ⟨a1, a2, a3, a4, a5⟩ := h1
  obtain ⟨b1, b2, b3, b4, rfl⟩ := h2
  exact ⟨⟨g 0, g 1, g 2, g 3, ⟨a1, a2, a3, a4, a5⟩, b1, b2, b3, b4⟩, hw⟩
theorem SX_to {h : CH} {o s : Nat} {P : PO} {A : Nat → Nat} {w : SV} (h1 : SX h o P s A w) : ∃ g d, SC h o s A g d ∧ SA P g d w := by
  obtain ⟨⟨gL, gE, gA, gK, ⟨a1, a2, a3, a4, a5⟩, b1, b2, b3, b4⟩, hw⟩ := h1
  exact ⟨fun q => match q with
    | 0 => gL
    | 1 => gE
    | 2 => gA
    | _ => gK, i3 (w 0), ⟨a1, a2, a3, a4, a5⟩, b1, b2, b3, b4, rfl⟩
def s5 (s : Nat) (A : Nat → Nat) : List Nat := [s, A 0, A 1, A 2, A 3]
theorem SC_hX {X : List Nat} {h h' : CH} {o s : Nat} {A : Nat → Nat} {g : Nat → Nat → Int32} {d : Int32} (h1 : SC h o s A g d) (hx : hX X h h') (hd : ∀ q, q ∈ s5 s A → ¬ q ∈ X) : SC h' o s A g d := by
  obtain ⟨a1, a2, a3, a4, a5⟩ := h1
  unfold s5 at hd
  exact ⟨(hx _ (hd _ (by simp))).trans a1, (hx _ (hd _ (by simp))).trans a2, (hx _ (hd _ (by simp))).trans a3, (hx _ (hd _ (by simp))).trans a4, (hx _ (hd _ (by simp))).trans a5⟩
theorem SC_hle {f h : CH} {o s : Nat} {A : Nat → Nat} {g : Nat → Nat → Int32} {d : Int32} (h1 : SC f o s A g d) (hl : hle f h) : SC h o s A g d := by
  obtain ⟨a1, a2, a3, a4, a5⟩ := h1
  exact ⟨hl _ _ a1, hl _ _ a2, hl _ _ a3, hl _ _ a4, hl _ _ a5⟩
def upg (g : Nat → Nat → Int32) (i k : Nat) (v : Int32) : Nat → Nat → Int32 := fun q => if q = i then upd (g q) k v else g q
section BE
variable {h : CH} {o o2 s s2 : Nat} {A A2 : Nat → Nat} {g g2 : Nat → Nat → Int32} {d d2 : Int32}
theorem s5_ne (hn : (s5 s A).Nodup) : (s ≠ A 0 ∧ s ≠ A 1 ∧ s ≠ A 2 ∧ s ≠ A 3) ∧ (A 0 ≠ A 1 ∧ A 0 ≠ A 2 ∧ A 0 ≠ A 3) ∧ (A 1 ≠ A 2 ∧ A 1 ≠ A 3) ∧ A 2 ≠ A 3 := by
  unfold s5 at hn
  simp only [List.nodup_cons, List.mem_cons, List.not_mem_nil, or_false, not_or, List.nodup_nil, and_true, not_false_eq_true] at hn
  exact hn
theorem SC_set0 (h1 : SC h o s A g d) (hn : (s5 s A).Nodup) {k : Nat} {v : Int32} (hk : k < 9) : ∃ h', sI h (A 0) 0 (i3 k) v = some h' ∧ SC h' o s A (upg g 0 k v) d ∧ hX (s5 s A) h h' := by
  have hne := s5_ne hn
  obtain ⟨a1, a2, a3, a4, a5⟩ := h1
  refine ⟨_, sI_of a2 hk (by decide), ⟨?_, ?_, ?_, ?_, ?_⟩, hX_hup (by unfold s5; simp)⟩
  · rw [hup_n (by simp [hne, Ne.symm]), a1]
  · rw [hup_s]; rfl
  · rw [hup_n (by simp [hne, Ne.symm]), a3]; rfl
  · rw [hup_n (by simp [hne, Ne.symm]), a4]; rfl
  · rw [hup_n (by simp [hne, Ne.symm]), a5]; rfl
theorem SC_set1 (h1 : SC h o s A g d) (hn : (s5 s A).Nodup) {k : Nat} {v : Int32} (hk : k < 9) : ∃ h', sI h (A 1) 0 (i3 k) v = some h' ∧ SC h' o s A (upg g 1 k v) d ∧ hX (s5 s A) h h' := by
  have hne := s5_ne hn
  obtain ⟨a1, a2, a3, a4, a5⟩ := h1
  refine ⟨_, sI_of a3 hk (by decide), ⟨?_, ?_, ?_, ?_, ?_⟩, hX_hup (by unfold s5; simp)⟩
  · rw [hup_n (by simp [hne, Ne.symm]), a1]
  · rw [hup_n (by simp [hne, Ne.symm]), a2]; rfl
  · rw [hup_s]; rfl
  · rw [hup_n (by simp [hne, Ne.symm]), a4]; rfl
  · rw [hup_n (by simp [hne, Ne.symm]), a5]; rfl
theorem SC_set2 (h1 : SC h o s A g d) (hn : (s5 s A).Nodup) {k : Nat} {v : Int32} (hk : k < 9) : ∃ h', sI h (A 2) 0 (i3 k) v = some h' ∧ SC h' o s A (upg g 2 k v) d ∧ hX (s5 s A) h h' := by
  have hne := s5_ne hn
  obtain ⟨a1, a2, a3, a4, a5⟩ := h1
  refine ⟨_, sI_of a4 hk (by decide), ⟨?_, ?_, ?_, ?_, ?_⟩, hX_hup (by unfold s5; simp)⟩
  · rw [hup_n (by simp [hne, Ne.symm]), a1]
  · rw [hup_n (by simp [hne, Ne.symm]), a2]; rfl
  · rw [hup_n (by simp [hne, Ne.symm]), a3]; rfl
  · rw [hup_s]; rfl
  · rw [hup_n (by simp [hne, Ne.symm]), a5]; rfl
theorem SC_set3 (h1 : SC h o s A g d) (hn : (s5 s A).Nodup) {k : Nat} {v : Int32} (hk : k < 6) : ∃ h', sI h (A 3) 0 (i3 k) v = some h' ∧ SC h' o s A (upg g 3 k v) d ∧ hX (s5 s A) h h' := by
  have hne := s5_ne hn
  obtain ⟨a1, a2, a3, a4, a5⟩ := h1
  refine ⟨_, sI_of a5 hk (by decide), ⟨?_, ?_, ?_, ?_, ?_⟩, hX_hup (by unfold s5; simp)⟩
  · rw [hup_n (by simp [hne, Ne.symm]), a1]
  · rw [hup_n (by simp [hne, Ne.symm]), a2]; rfl
  · rw [hup_n (by simp [hne, Ne.symm]), a3]; rfl
  · rw [hup_n (by simp [hne, Ne.symm]), a4]; rfl
  · rw [hup_s]; rfl
theorem SC_setd (h1 : SC h o s A g d) (hn : (s5 s A).Nodup) {v : Int32} : ∃ h', pI h s 3 4 v = some h' ∧ SC h' o s A g v ∧ hX (s5 s A) h h' := by
  have hne := s5_ne hn
  obtain ⟨a1, a2, a3, a4, a5⟩ := h1
  refine ⟨_, pI_of a1 (show 4 < 6 by decide), ⟨?_, ?_, ?_, ?_, ?_⟩, hX_hup (by unfold s5; simp)⟩
  · rw [hup_s]; rfl
  · rw [hup_n (by simp [hne, Ne.symm]), a2]
  · rw [hup_n (by simp [hne, Ne.symm]), a3]
  · rw [hup_n (by simp [hne, Ne.symm]), a4]
  · rw [hup_n (by simp [hne, Ne.symm]), a5]
theorem C3_be_eq (h1 : SC h o s A g d) (h2 : SC h o2 s2 A2 g2 d2) (hn : (s5 s A).Nodup) (hd : ∀ q, q ∈ s5 s2 A2 → ¬ q ∈ s5 s A) : ∃ h' g', C3_be h s s2 = some (s, h') ∧ SC h' o s A g' d2 ∧ (∀ i j, i < 3 → j < 9 → g' i j = g2 i j) ∧ (∀ j, j < 6 → g' 3 j = g2 3 j) ∧ hX (s5 s A) h h' := by
  unfold C3_be
  obtain ⟨r3, e3, g3, c3, n3, x3⟩ : ∃ r, o_loop (C3_be_L2 s s2) (0, h) = some r ∧ ∃ g', SC r o s A g' d ∧ (∀ i j, i < 3 → j < 9 → g' i j = g2 i j) ∧ hX (s5 s A) h r := by
    refine o_inv0 (fun k t => t.1 = i3 k ∧ ∃ g', SC t.2 o s A g' d ∧ (∀ i j, i < 3 → j < k → g' i j = g2 i j) ∧ hX (s5 s A) h t.2) (fun r => ∃ g', SC r o s A g' d ∧ (∀ i j, i < 3 → j < 9 → g' i j = g2 i j) ∧ hX (s5 s A) h r) 9 (fun k t hk hI => ?_) (fun t hI => ?_) _ ⟨rfl, g, h1, fun _ _ _ hj => absurd hj (Nat.not_lt_zero _), hX_refl _ h⟩
    · obtain ⟨t1, t2⟩ := t
      obtain ⟨rfl, g', hV, hg, hx⟩ := hI
      dsimp only at hV hx
      have s1 := SC_hX h2 hx hd
      unfold C3_be_L2
      dsimp only
      rw [if_pos ((i3_ltl (c := 9) (n := 9) rfl (by omega) (by decide)).mpr hk), gR_of hV.1 (k := 0) rfl, Option.bind_some, gR_of s1.1 (k := 0) rfl, Option.bind_some, aI_of s1.2.1 (by omega) (by decide), Option.bind_some]
      obtain ⟨u1, y1, v1, x1⟩ := SC_set0 hV hn (v := g2 0 k) hk
      have q1 := SC_hX s1 x1 hd
      rw [y1, Option.bind_some, gR_of v1.1 (k := 1) rfl, Option.bind_some, gR_of q1.1 (k := 1) rfl, Option.bind_some, aI_of q1.2.2.1 (by omega) (by decide), Option.bind_some]
      obtain ⟨u2, y2, v2, x2⟩ := SC_set1 v1 hn (v := g2 1 k) hk
      have q2 := SC_hX q1 x2 hd
      rw [y2, Option.bind_some, gR_of v2.1 (k := 2) rfl, Option.bind_some, gR_of q2.1 (k := 2) rfl, Option.bind_some, aI_of q2.2.2.2.1 (by omega) (by decide), Option.bind_some]
      obtain ⟨u3, y3, v3, x3⟩ := SC_set2 v2 hn (v := g2 2 k) hk
      rw [y3, Option.bind_some, i3_succ]
      refine ⟨_, rfl, rfl, _, v3, fun i j hi hj => ?_, hX_trans (hX_trans (hX_trans hx x1) x2) x3⟩
      unfold upg upd
      by_cases ej : j = k
      · subst ej
        have : i = 0 ∨ i = 1 ∨ i = 2 := by omega
        rcases this with rfl | rfl | rfl <;> simp
      · have hg2 := hg i j hi (by omega)
        have : i = 0 ∨ i = 1 ∨ i = 2 := by omega
        rcases this with rfl | rfl | rfl <;> simp [ej, hg2]
    · obtain ⟨t1, t2⟩ := t
      obtain ⟨rfl, hI⟩ := hI
      unfold C3_be_L2
      dsimp only
      rw [if_neg (by decide)]
      exact ⟨_, rfl, hI⟩
  rw [e3, Option.bind_some]
  obtain ⟨r6, e6, g6, c6, n6, m6, x6⟩ : ∃ r, o_loop (C3_be_L52 s s2) (0, r3) = some r ∧ ∃ g', SC r o s A g' d ∧ (∀ i j, i < 3 → j < 9 → g' i j = g2 i j) ∧ (∀ j, j < 6 → g' 3 j = g2 3 j) ∧ hX (s5 s A) h r := by
    refine o_inv0 (fun k t => t.1 = i3 k ∧ ∃ g', SC t.2 o s A g' d ∧ (∀ i j, i < 3 → j < 9 → g' i j = g2 i j) ∧ (∀ j, j < k → g' 3 j = g2 3 j) ∧ hX (s5 s A) h t.2) (fun r => ∃ g', SC r o s A g' d ∧ (∀ i j, i < 3 → j < 9 → g' i j = g2 i j) ∧ (∀ j, j < 6 → g' 3 j = g2 3 j) ∧ hX (s5 s A) h r) 6 (fun k t hk hI => ?_) (fun t hI => ?_) _ ⟨rfl, g3, c3, n3, fun _ hj => absurd hj (Nat.not_lt_zero _), x3⟩
    · obtain ⟨t1, t2⟩ := t
      obtain ⟨rfl, g', hV, hg, hg3, hx⟩ := hI
      dsimp only at hV hx
      have s1 := SC_hX h2 hx hd
      unfold C3_be_L52
      dsimp only
      rw [if_pos ((i3_ltl (c := 6) (n := 6) rfl (by omega) (by decide)).mpr hk), gR_of hV.1 (k := 3) rfl, Option.bind_some, gR_of s1.1 (k := 3) rfl, Option.bind_some, aI_of s1.2.2.2.2 (by omega) (by decide), Option.bind_some]
      obtain ⟨u1, y1, v1, x1⟩ := SC_set3 hV hn (v := g2 3 k) hk
      rw [y1, Option.bind_some, i3_succ]
      refine ⟨_, rfl, rfl, _, v1, fun i j hi hj => ?_, fun j hj => ?_, hX_trans hx x1⟩
      · unfold upg
        rw [if_neg (by omega)]
        exact hg i j hi hj
      · unfold upg upd
        rw [if_pos (by decide)]
        by_cases ej : j = k
        · rw [if_pos ej, ej]
        · rw [if_neg ej]
          exact hg3 j (by omega)
    · obtain ⟨t1, t2⟩ := t
      obtain ⟨rfl, hI⟩ := hI
      unfold C3_be_L52
      dsimp only
      rw [if_neg (by decide)]
      exact ⟨_, rfl, hI⟩
  have s6 := SC_hX h2 x6 hd
  rw [e6, Option.bind_some, gI_of s6.1 (k := 4) rfl, Option.bind_some]
  obtain ⟨r8, e8, c8, x8⟩ := SC_setd c6 hn (v := d2)
  rw [e8, Option.bind_some]
  exact ⟨r8, g6, rfl, c8, n6, m6, hX_trans x6 x8⟩
theorem SA_of {P : PO} {w : SV} (hP : WFP P) (h : SA P g2 d2 w) (h1 : ∀ i j, i < 3 → j < 9 → g i j = g2 i j) (h2 : ∀ j, j < 6 → g 3 j = g2 3 j) : SA P g d2 w := by
  have hN := hP.1
  have hM := hP.2.1
  obtain ⟨a1, a2, a3, a4, a5⟩ := h
  exact ⟨fun k hk => (h1 0 k (by decide) (by omega)).trans (a1 k hk), fun k hk => (h1 1 k (by decide) (by omega)).trans (a2 k hk), fun k hk => (h1 2 k (by decide) (by omega)).trans (a3 k hk), fun c hc => (h2 c (by omega)).trans (a4 c hc), a5⟩
/-- fresh places -/
def FR (h : CH) (n : Nat) : Prop := ∀ q, n ≤ q → h q = none
/-- what lay below n stays -/
def hB (n : Nat) (h h' : CH) : Prop := ∀ q, q < n → h' q = h q
theorem aCell_of {r : CR} {n : Nat} {e : CE} (h1 : 1 ≤ r.2.1) (h2 : n ≤ r.2.2) : aCell h r n e = some (hup h r.1 e, r.1 + 1, r.2.1 - 1, r.2.2 - n) := by
  unfold aCell
  rw [if_pos ⟨h1, h2⟩]
theorem aArr_of {r : CR} {t n : Nat} (h1 : 1 ≤ r.2.1) (h2 : n ≤ r.2.2) (hn : n ≤ 100000) : aArr h r t (i3 n) = some (hup h r.1 (.inl (t, n, .inl (fun _ => 0))), r.1 + 1, r.2.1 - 1, r.2.2 - n) := by
  unfold aArr
  have h31 : n < 2 ^ 31 := by omega
  rw [if_neg (by rintro (x | x); exact i3_nn h31 x; rw [i3_nat h31] at x; omega), i3_nat h31, aCell_of h1 h2]
theorem aArrQ_of {r : CR} {t n : Nat} (h1 : 1 ≤ r.2.1) (h2 : n ≤ r.2.2) (hn : n ≤ 100000) : aArrQ h r t (i3 n) = some (hup h r.1 (.inl (t, n, .inr (.inr (.inr (.inr (fun _ => none)))))), r.1 + 1, r.2.1 - 1, r.2.2 - n) := by
  unfold aArrQ
  have h31 : n < 2 ^ 31 := by omega
  rw [if_neg (by rintro (x | x); exact i3_nn h31 x; rw [i3_nat h31] at x; omega), i3_nat h31, aCell_of h1 h2]
theorem FR_up {n : Nat} {e : CE} (hf : FR h n) : FR (hup h n e) (n + 1) := fun q hq => by rw [hup_n (by omega)]; exact hf q (by omega)
theorem FR_set {n a : Nat} {e : CE} (hf : FR h n) (ha : a < n) : FR (hup h a e) n := fun q hq => by rw [hup_n (by omega)]; exact hf q hq
theorem hB_refl (n : Nat) (h : CH) : hB n h h := fun _ _ => rfl
theorem hB_up {n m a : Nat} {h' : CH} {e : CE} (hb : hB n h h') (ha : n ≤ a) (_ : m = m) : hB n h (hup h' a e) := fun q hq => by rw [hup_n (by omega)]; exact hb q hq
theorem achk_of {α : Type} {r : CR} {x : Option (α × CS)} {q : α × CS} (e : x = some q) (h1 : q.2.2.2.1 ≤ r.2.1) (h2 : q.2.2.2.2 ≤ r.2.2) : achk r x = some q := by
  unfold achk
  rw [e, Option.bind_some, if_pos ⟨h1, h2⟩]
theorem achv_of {r : CR} {x : Option CS} {q : CS} (e : x = some q) (h1 : q.2.2.1 ≤ r.2.1) (h2 : q.2.2.2 ≤ r.2.2) : achv r x = some q := by
  unfold achv
  rw [e, Option.bind_some, if_pos ⟨h1, h2⟩]
/-- the constructor of a service at a place c that was just made -/
theorem C3_init_eq {r : CR} {c : Nat} (hc : h c = some (.inr (3, [.null, .null, .null, .null, .int 0, .null]))) (hlt : c < r.1) (hf : FR h r.1) (h1 : 4 ≤ r.2.1) (h2 : 33 ≤ r.2.2) : ∃ h', C3_init h r c o = some (h', r.1 + 4, r.2.1 - 4, r.2.2 - 33) ∧ SC h' o c (fun i => r.1 + i) (fun _ _ => 0) 0 ∧ FR h' (r.1 + 4) ∧ ∀ q, q < r.1 → q ≠ c → h' q = h q := by
  unfold C3_init
  rw [pQ_of hc (show _ < 6 by decide), Option.bind_some]
  generalize e1 : hup h c (.inr (3, List.set [.null, .null, .null, .null, .int 0, .null] 5 (va_rf (some o)))) = k1
  have c1 : k1 c = some (.inr (3, [.null, .null, .null, .null, .int 0, .ref o])) := by rw [← e1, hup_s]; rfl
  have f1 : FR k1 r.1 := by rw [← e1]; exact FR_set hf hlt
  have b1 : ∀ q, q < r.1 → q ≠ c → k1 q = h q := fun q _ hq => by rw [← e1, hup_n hq]
  clear e1
  rw [show aArr k1 r 0 9 = _ from aArr_of (n := 9) (by omega) (by omega) (by decide), Option.bind_some]
  dsimp only
  generalize e2 : hup k1 r.1 (.inl (0, 9, .inl (fun _ => 0))) = k2
  have c2 : k2 c = some (.inr (3, [.null, .null, .null, .null, .int 0, .ref o])) := by rw [← e2, hup_n (by omega)]; exact c1
  have d2 : k2 r.1 = some (.inl (0, 9, .inl (fun _ => 0))) := by rw [← e2, hup_s]
  have f2 : FR k2 (r.1 + 1) := by rw [← e2]; exact FR_up f1
  have b2 : ∀ q, q < r.1 → q ≠ c → k2 q = h q := fun q hq hq2 => by rw [← e2, hup_n (by omega)]; exact b1 q hq hq2
  clear e2
  rw [pQ_of c2 (show _ < 6 by decide), Option.bind_some]
  generalize e3 : hup k2 c (.inr (3, List.set [.null, .null, .null, .null, .int 0, .ref o] 0 (va_rf (some r.1)))) = k3
  have c3 : k3 c = some (.inr (3, [.ref r.1, .null, .null, .null, .int 0, .ref o])) := by rw [← e3, hup_s]; rfl
  have d3 : k3 r.1 = some (.inl (0, 9, .inl (fun _ => 0))) := by rw [← e3, hup_n (by omega)]; exact d2
  have f3 : FR k3 (r.1 + 1) := by rw [← e3]; exact FR_set f2 (by omega)
  have b3 : ∀ q, q < r.1 → q ≠ c → k3 q = h q := fun q hq hq2 => by rw [← e3, hup_n hq2]; exact b2 q hq hq2
  clear e3
  rw [show aArr k3 _ 0 9 = _ from aArr_of (n := 9) (r := (r.1 + 1, r.2.1 - 1, r.2.2 - 9)) (by dsimp only; omega) (by dsimp only; omega) (by decide), Option.bind_some]
  dsimp only
  generalize e4 : hup k3 (r.1 + 1) (.inl (0, 9, .inl (fun _ => 0))) = k4
  have c4 : k4 c = some (.inr (3, [.ref r.1, .null, .null, .null, .int 0, .ref o])) := by rw [← e4, hup_n (by omega)]; exact c3
  have d4 : k4 r.1 = some (.inl (0, 9, .inl (fun _ => 0))) := by rw [← e4, hup_n (by omega)]; exact d3
  have d4' : k4 (r.1 + 1) = some (.inl (0, 9, .inl (fun _ => 0))) := by rw [← e4, hup_s]
  have f4 : FR k4 (r.1 + 2) := by rw [← e4]; exact FR_up f3
  have b4 : ∀ q, q < r.1 → q ≠ c → k4 q = h q := fun q hq hq2 => by rw [← e4, hup_n (by omega)]; exact b3 q hq hq2
  clear e4
  rw [pQ_of c4 (show _ < 6 by decide), Option.bind_some]
  generalize e5 : hup k4 c (.inr (3, List.set [.ref r.1, .null, .null, .null, .int 0, .ref o] 1 (va_rf (some (r.1 + 1))))) = k5
  have c5 : k5 c = some (.inr (3, [.ref r.1, .ref (r.1 + 1), .null, .null, .int 0, .ref o])) := by rw [← e5, hup_s]; rfl
  have d5 : k5 r.1 = some (.inl (0, 9, .inl (fun _ => 0))) := by rw [← e5, hup_n (by omega)]; exact d4
  have d5' : k5 (r.1 + 1) = some (.inl (0, 9, .inl (fun _ => 0))) := by rw [← e5, hup_n (by omega)]; exact d4'
  have f5 : FR k5 (r.1 + 2) := by rw [← e5]; exact FR_set f4 (by omega)
  have b5 : ∀ q, q < r.1 → q ≠ c → k5 q = h q := fun q hq hq2 => by rw [← e5, hup_n hq2]; exact b4 q hq hq2
  clear e5
  rw [show aArr k5 _ 0 9 = _ from aArr_of (n := 9) (r := (r.1 + 1 + 1, r.2.1 - 1 - 1, r.2.2 - 9 - 9)) (by dsimp only; omega) (by dsimp only; omega) (by decide), Option.bind_some]
  dsimp only
  generalize e6 : hup k5 (r.1 + 1 + 1) (.inl (0, 9, .inl (fun _ => 0))) = k6
  have c6 : k6 c = some (.inr (3, [.ref r.1, .ref (r.1 + 1), .null, .null, .int 0, .ref o])) := by rw [← e6, hup_n (by omega)]; exact c5
  have d6 : k6 r.1 = some (.inl (0, 9, .inl (fun _ => 0))) := by rw [← e6, hup_n (by omega)]; exact d5
  have d6' : k6 (r.1 + 1) = some (.inl (0, 9, .inl (fun _ => 0))) := by rw [← e6, hup_n (by omega)]; exact d5'
  have d6'' : k6 (r.1 + 2) = some (.inl (0, 9, .inl (fun _ => 0))) := by rw [← e6]; exact hup_s
  have f6 : FR k6 (r.1 + 3) := by rw [← e6]; exact FR_up f5
  have b6 : ∀ q, q < r.1 → q ≠ c → k6 q = h q := fun q hq hq2 => by rw [← e6, hup_n (by omega)]; exact b5 q hq hq2
  clear e6
  rw [pQ_of c6 (show _ < 6 by decide), Option.bind_some]
  generalize e7 : hup k6 c (.inr (3, List.set [.ref r.1, .ref (r.1 + 1), .null, .null, .int 0, .ref o] 2 (va_rf (some (r.1 + 1 + 1))))) = k7
  have c7 : k7 c = some (.inr (3, [.ref r.1, .ref (r.1 + 1), .ref (r.1 + 2), .null, .int 0, .ref o])) := by rw [← e7, hup_s]; rfl
  have d7 : k7 r.1 = some (.inl (0, 9, .inl (fun _ => 0))) := by rw [← e7, hup_n (by omega)]; exact d6
  have d7' : k7 (r.1 + 1) = some (.inl (0, 9, .inl (fun _ => 0))) := by rw [← e7, hup_n (by omega)]; exact d6'
  have d7'' : k7 (r.1 + 2) = some (.inl (0, 9, .inl (fun _ => 0))) := by rw [← e7, hup_n (by omega)]; exact d6''
  have f7 : FR k7 (r.1 + 3) := by rw [← e7]; exact FR_set f6 (by omega)
  have b7 : ∀ q, q < r.1 → q ≠ c → k7 q = h q := fun q hq hq2 => by rw [← e7, hup_n hq2]; exact b6 q hq hq2
  clear e7
  rw [show aArr k7 _ 0 6 = _ from aArr_of (n := 6) (r := (r.1 + 1 + 1 + 1, r.2.1 - 1 - 1 - 1, r.2.2 - 9 - 9 - 9)) (by dsimp only; omega) (by dsimp only; omega) (by decide), Option.bind_some]
  dsimp only
  generalize e8 : hup k7 (r.1 + 1 + 1 + 1) (.inl (0, 6, .inl (fun _ => 0))) = k8
  have c8 : k8 c = some (.inr (3, [.ref r.1, .ref (r.1 + 1), .ref (r.1 + 2), .null, .int 0, .ref o])) := by rw [← e8, hup_n (by omega)]; exact c7
  have d8 : k8 r.1 = some (.inl (0, 9, .inl (fun _ => 0))) := by rw [← e8, hup_n (by omega)]; exact d7
  have d8' : k8 (r.1 + 1) = some (.inl (0, 9, .inl (fun _ => 0))) := by rw [← e8, hup_n (by omega)]; exact d7'
  have d8'' : k8 (r.1 + 2) = some (.inl (0, 9, .inl (fun _ => 0))) := by rw [← e8, hup_n (by omega)]; exact d7''
  have d8c : k8 (r.1 + 3) = some (.inl (0, 6, .inl (fun _ => 0))) := by rw [← e8]; exact hup_s
  have f8 : FR k8 (r.1 + 4) := by rw [← e8]; exact FR_up f7
  have b8 : ∀ q, q < r.1 → q ≠ c → k8 q = h q := fun q hq hq2 => by rw [← e8, hup_n (by omega)]; exact b7 q hq hq2
  clear e8
  rw [pQ_of c8 (show _ < 6 by decide), Option.bind_some]
  refine ⟨_, by congr 3 <;> omega, ⟨by rw [hup_s]; rfl, ?_, ?_, ?_, ?_⟩, FR_set f8 (by omega), fun q hq hq2 => by rw [hup_n hq2]; exact b8 q hq hq2⟩
  · dsimp only; rw [hup_n (by omega)]; exact d8
  · dsimp only; rw [hup_n (by omega)]; exact d8'
  · dsimp only; rw [hup_n (by omega)]; exact d8''
  · dsimp only; rw [hup_n (by omega)]; exact d8c
theorem C3_copy_eq {r : CR} (hf : FR h r.1) (h2 : SC h o s2 A2 g2 d2) (hb : ∀ q, q ∈ s5 s2 A2 → q < r.1) (h5 : 5 ≤ r.2.1) (h39 : 39 ≤ r.2.2) : ∃ h' g', C3_copy h r s2 = some (r.1, (h', r.1 + 5, r.2.1 - 5, r.2.2 - 39)) ∧ SC h' o r.1 (fun i => r.1 + 1 + i) g' d2 ∧ (∀ i j, i < 3 → j < 9 → g' i j = g2 i j) ∧ (∀ j, j < 6 → g' 3 j = g2 3 j) ∧ FR h' (r.1 + 5) ∧ hB r.1 h h' := by
  unfold C3_copy
  rw [aCell_of (by omega) (by omega), Option.bind_some]
  dsimp only
  have hs2 : s2 < r.1 := hb s2 (by unfold s5; simp)
  generalize e1 : hup h r.1 (.inr (3, [.null, .null, .null, .null, .int 0, .null])) = k1
  have c1 : k1 r.1 = some (.inr (3, [.null, .null, .null, .null, .int 0, .null])) := by rw [← e1, hup_s]
  have f1 : FR k1 (r.1 + 1) := by rw [← e1]; exact FR_up hf
  have b1 : hB r.1 h k1 := by rw [← e1]; intro q hq; exact hup_n (by omega)
  clear e1
  rw [gR_of (k := 5) (show k1 s2 = _ from (b1 s2 hs2).trans h2.1) rfl, Option.bind_some]
  obtain ⟨k2, e2, c2, f2, b2⟩ := C3_init_eq (o := o) (r := (r.1 + 1, r.2.1 - 1, r.2.2 - 6)) c1 (by dsimp only; omega) f1 (by dsimp only; omega) (by dsimp only; omega)
  dsimp only at e2 c2 f2 b2
  rw [achv_of e2 (by dsimp only; omega) (by dsimp only; omega), Option.bind_some]
  dsimp only
  have q2 : SC k2 o s2 A2 g2 d2 := by
    obtain ⟨a1, a2, a3, a4, a5⟩ := h2
    have hh : ∀ q, q ∈ s5 s2 A2 → k2 q = h q := fun q hq => (b2 q (by have := hb q hq; omega) (by have := hb q hq; omega)).trans (b1 q (hb q hq))
    unfold s5 at hh
    exact ⟨(hh _ (by simp)).trans a1, (hh _ (by simp)).trans a2, (hh _ (by simp)).trans a3, (hh _ (by simp)).trans a4, (hh _ (by simp)).trans a5⟩
  have hn : (s5 r.1 (fun i => r.1 + 1 + i)).Nodup := by
    unfold s5
    simp only [List.nodup_cons, List.mem_cons, List.not_mem_nil, or_false, not_or, List.nodup_nil, and_true, not_false_eq_true]
    omega
  have hd : ∀ q, q ∈ s5 s2 A2 → ¬ q ∈ s5 r.1 (fun i => r.1 + 1 + i) := by
    intro q hq hq2
    have := hb q hq
    unfold s5 at hq2
    simp only [List.mem_cons, List.not_mem_nil, or_false] at hq2
    omega
  obtain ⟨k3, g', e3, c3, n3, m3, x3⟩ := C3_be_eq c2 q2 hn hd
  rw [vc_of c2.1, e3, Option.bind_some]
  refine ⟨k3, g', by congr 4 <;> omega, c3, n3, m3, fun q hq => ?_, fun q hq => ?_⟩
  · rw [x3 q (by unfold s5; simp only [List.mem_cons, List.not_mem_nil, or_false]; omega)]
    exact f2 q (by omega)
  · rw [x3 q (by unfold s5; simp only [List.mem_cons, List.not_mem_nil, or_false]; omega)]
    exact (b2 q (by omega) (by omega)).trans (b1 q hq)
end BE
section CTAKE
variable {K : Nat → Nat} {h : CH} {o off vs : Nat} {f : CH} {P : PO} {s : Nat} {A : Nat → Nat} {w : SV}
theorem C3_take_eq (h1 : CSV K h o off vs f P s A w) {c k : Nat} (hc : c < pM P) (hk : k < pN P) : ∃ h', C3_take h s (i3 c) (i3 k) = some h' ∧ CSV K h' o off vs f P s A (upn w (19 + k) (4 + c)) ∧ hX (sX6 vs s A) h h' := by
  have hM := h1.1.1.2.1
  unfold C3_take
  obtain ⟨h2, e2, v2, x2⟩ := sx_A h1 hk (v := 4 + c) (by omega)
  have ea : atC (4 + c) = 4 + i3 c := by unfold atC; rw [if_neg (by omega)]; exact (i3_add 4 c).symm
  rw [sv_2 h1, Option.bind_some, ← ea, e2]
  exact ⟨h2, rfl, v2, x2⟩
/-- burning what lies in an archive -/
def brk (w : SV) (t k : Nat) : SV := fun j => if 19 ≤ j ∧ j < 19 + k ∧ w j = t then 99 else w j
theorem brk_0 (w : SV) (t : Nat) : brk w t 0 = w := by
  funext j
  unfold brk
  rw [if_neg (by omega)]
theorem brk_t {w : SV} {t k : Nat} (h : w (19 + k) = t) : upn (brk w t k) (19 + k) 99 = brk w t (k + 1) := by
  funext j
  unfold upn brk
  by_cases e : j = 19 + k
  · subst e
    rw [if_pos rfl, if_pos ⟨by omega, by omega, h⟩]
  · rw [if_neg e]
    by_cases e4 : 19 ≤ j ∧ j < 19 + k ∧ w j = t
    · rw [if_pos e4, if_pos ⟨e4.1, by omega, e4.2.2⟩]
    · rw [if_neg e4, if_neg (fun x => e4 ⟨x.1, by omega, x.2.2⟩)]
theorem brk_f {w : SV} {t k : Nat} (h : ¬ w (19 + k) = t) : brk w t (k + 1) = brk w t k := by
  funext j
  unfold brk
  by_cases e4 : 19 ≤ j ∧ j < 19 + k ∧ w j = t
  · rw [if_pos e4, if_pos ⟨e4.1, by omega, e4.2.2⟩]
  · rw [if_neg e4, if_neg]
    rintro ⟨x1, x2, x3⟩
    by_cases e : j = 19 + k
    · subst e
      exact h x3
    · exact e4 ⟨x1, by omega, x3⟩
theorem C3_burn_eq (h1 : CSV K h o off vs f P s A w) {t : Nat} (ht : t < 99) : ∃ h', C3_burn h s (i3 t) = some (i3 (arc P w t), h') ∧ CSV K h' o off vs f P s A (brk w t (pN P)) ∧ hX (sX6 vs s A) h h' := by
  have hN := h1.1.1.1
  have ha : arc P w t < 2 ^ 31 := p2 (bst_lt _ _) (by omega)
  unfold C3_burn
  rw [sv_vc h1, C3_archive_eq h1 ht, Option.bind_some]
  obtain ⟨r, e, hr, v, x⟩ : ∃ r : Int32 × CH, o_loop (C3_burn_L8 s (i3 (arc P w t))) (0, h) = some r ∧ r.1 = i3 (arc P w t) ∧ CSV K r.2 o off vs f P s A (brk w t (pN P)) ∧ hX (sX6 vs s A) h r.2 := by
    refine o_inv0 (fun k (q : Int32 × CH) => q.1 = i3 k ∧ CSV K q.2 o off vs f P s A (brk w t k) ∧ hX (sX6 vs s A) h q.2) (fun (r : Int32 × CH) => r.1 = i3 (arc P w t) ∧ CSV K r.2 o off vs f P s A (brk w t (pN P)) ∧ hX (sX6 vs s A) h r.2) (pN P) (fun k q hk hI => ?_) (fun q hI => ?_) _ ⟨rfl, by rw [brk_0]; exact h1, hX_refl _ h⟩
    · obtain ⟨t1, t2⟩ := q
      obtain ⟨rfl, hV, hx⟩ := hI
      dsimp only at hV hx
      unfold C3_burn_L8
      dsimp only
      have hb : (arc P w t).testBit k = decide (w (19 + k) = t) := by
        unfold arc
        rw [bst_bit, decide_eq_true hk, Bool.true_and]
      rw [sv_o hV, Option.bind_some, cx_1 hV.1, Option.bind_some, cx_n hV.1, Option.bind_some, if_pos ((i3_lt (by omega) (by omega)).mpr hk), C1_isOf_eq ha (by omega), Option.bind_some, i3_succ, hb]
      by_cases ew : w (19 + k) = t
      · rw [decide_eq_true ew, if_neg (by decide), sv_2 hV, Option.bind_some]
        obtain ⟨h2, e2, v2, x2⟩ := sx_A hV hk (v := 99) (by omega)
        rw [show sI t2 (A 2) 0 (i3 k) (-1) = some h2 from e2, Option.bind_some, Option.bind_some]
        exact ⟨_, rfl, rfl, by rw [← brk_t ew]; exact v2, hX_trans hx x2⟩
      · rw [decide_eq_false ew, if_pos (by decide), Option.bind_some]
        exact ⟨_, rfl, rfl, by rw [brk_f ew]; exact hV, hx⟩
    · obtain ⟨t1, t2⟩ := q
      obtain ⟨rfl, hV, hx⟩ := hI
      dsimp only at hV hx
      unfold C3_burn_L8
      dsimp only
      rw [sv_o hV, Option.bind_some, cx_1 hV.1, Option.bind_some, cx_n hV.1, Option.bind_some, if_neg (fun x => absurd ((i3_lt (by omega) (by omega)).mp x) (by omega))]
      exact ⟨_, rfl, rfl, hV, hx⟩
  obtain ⟨r1, r2⟩ := r
  dsimp only at hr v x
  subst hr
  exact ⟨r2, e, v, x⟩
/-- all in one town tell each other -/
def tlk (P : PO) (w : SV) : SV := itf (fun t u => lrn P u (clI P u t) (knw P u (clI P u t))) 4 w
theorem C3_talk_eq (h1 : CSV K h o off vs f P s A w) : ∃ h', C3_talk h s = some (s, h') ∧ CSV K h' o off vs f P s A (tlk P w) ∧ hX (sX6 vs s A) h h' := by
  have hM := h1.1.1.2.1
  unfold C3_talk
  obtain ⟨r, e, hr, v, x⟩ : ∃ r : Nat × CH, o_loop (C3_talk_L2 s) (0, h) = some r ∧ r.1 = s ∧ CSV K r.2 o off vs f P s A (tlk P w) ∧ hX (sX6 vs s A) h r.2 := by
    refine o_inv0 (fun k (q : Int32 × CH) => q.1 = i3 k ∧ CSV K q.2 o off vs f P s A (itf (fun t u => lrn P u (clI P u t) (knw P u (clI P u t))) k w) ∧ hX (sX6 vs s A) h q.2) (fun (r : Nat × CH) => r.1 = s ∧ CSV K r.2 o off vs f P s A (tlk P w) ∧ hX (sX6 vs s A) h r.2) 4 (fun k q hk hI => ?_) (fun q hI => ?_) _ ⟨rfl, h1, hX_refl _ h⟩
    · obtain ⟨t1, t2⟩ := q
      obtain ⟨rfl, hV, hx⟩ := hI
      dsimp only at hV hx
      unfold C3_talk_L2
      dsimp only
      show ∃ t' : Int32 × CH, _ ∧ t'.1 = _ ∧ CSV K t'.2 o off vs f P s A (lrn P (itf (fun t u => lrn P u (clI P u t) (knw P u (clI P u t))) k w) (clI P (itf (fun t u => lrn P u (clI P u t) (knw P u (clI P u t))) k w) k) (knw P (itf (fun t u => lrn P u (clI P u t) (knw P u (clI P u t))) k w) (clI P (itf (fun t u => lrn P u (clI P u t) (knw P u (clI P u t))) k w) k))) ∧ hX (sX6 vs s A) h t'.2
      generalize itf (fun t u => lrn P u (clI P u t) (knw P u (clI P u t))) k w = u at hV
      have hc := p2 (b := 31) (clI_lt P u k) (by omega)
      have hkn := knw_lt (sv_w hV) (clI P u k)
      rw [if_pos ((i3_ltl (c := 4) (n := 4) rfl (by omega) (by decide)).mpr hk), sv_vc hV, C3_clerksIn_eq hV (by omega), Option.bind_some, Option.bind_some, sv_vc hV, C3_known_eq hV hc, Option.bind_some, sv_vc hV, i3_succ]
      obtain ⟨h2, e2, v2, x2⟩ := C3_learn_eq hV hc hkn
      rw [e2, Option.bind_some]
      exact ⟨_, rfl, rfl, v2, hX_trans hx x2⟩
    · obtain ⟨t1, t2⟩ := q
      obtain ⟨rfl, hV, hx⟩ := hI
      unfold C3_talk_L2
      dsimp only
      rw [if_neg (by decide)]
      exact ⟨_, rfl, rfl, hV, hx⟩
  obtain ⟨r1, r2⟩ := r
  dsimp only at hr v x
  subst hr
  exact ⟨r2, e, v, x⟩
end CTAKE
