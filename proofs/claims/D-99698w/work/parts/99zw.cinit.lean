/-! ===== office: a reader is made ===== -/
section CINIT
variable {K : Nat → Nat} {hb : CH} {r : CR} {o m0 n : Nat}
def qR (m0 o : Nat) : Nat → Nat := fun i => if i = 1 then m0 + 1 else if i = 2 then m0 + 4 else if i = 3 then m0 + 9 else if i = 4 then m0 + 10 else if i = 5 then m0 + 11 else o
theorem sQ_s {h : CH} {a t N i : Nat} {g : Nat → Option Nat} {v : Option Nat} {x : Int32} (hx : x = i3 i) (hi : i < N) (hN : N < 2 ^ 31) : sQ (hup h a (.inl (t, N, .inr (.inr (.inr (.inr g)))))) a t x v = some (hup h a (.inl (t, N, .inr (.inr (.inr (.inr (va_up g i v))))))) := by
  rw [hx, sQ_of hup_s hi hN, hup_hup]
/-- an office with two empty lists -/
theorem C2_init_eq {h : CH} {c : Nat} (hc : h c = some (.inr (2, [.null, .null, .int 0, .int 0, .null, .null]))) (hlt : c < r.1) (h1 : 2 ≤ r.2.1) (h2 : 6 ≤ r.2.2) : C2_init K h r c = some (hup (hup (hup h r.1 (.inr (10, [.int 0, .ref (K 0), .int 0]))) (r.1 + 1) (.inr (10, [.int 0, .ref (K 0), .int 0]))) c (.inr (2, [.ref r.1, .ref (r.1 + 1), .int 0, .int 0, .null, .null])), r.1 + 2, r.2.1 - 2, r.2.2 - 6) := by
  unfold C2_init
  rw [aCell_of (by omega) (by omega), Option.bind_some]
  dsimp only
  rw [CJ2_new, Option.bind_some, pQ_of (show hup h r.1 _ c = _ by rw [hup_n (by omega)]; exact hc) (show 0 < 6 by decide), Option.bind_some, aCell_of (by show 1 ≤ r.2.1 - 1; omega) (by show 3 ≤ r.2.2 - 3; omega), Option.bind_some]
  dsimp only
  rw [CJ2_new, Option.bind_some, pQ_of (show hup (hup _ c _) (r.1 + 1) _ c = _ by rw [hup_n (by omega), hup_s]) (show 1 < 6 by decide), Option.bind_some]
  congr 2
  · funext p
    by_cases pc : p = c
    · rw [pc, hup_s, hup_s]; rfl
    · rw [hup_n pc, hup_n pc]
      by_cases p1 : p = r.1 + 1
      · rw [p1, hup_s, hup_s]
      · rw [hup_n p1, hup_n p1, hup_n pc]
theorem C5_init_eq (hf : FR hb m0) (hr : r.1 = m0 + 1) (h1 : 11 ≤ r.2.1) (h2 : 65 ≤ r.2.2) :
    ∃ h', C5_init K (hup hb m0 (.inr (4, [.int 0, .null, .null, .null, .null, .null, .null, .int 0, .int 0, .int 0, .int 0, .int 0, .int 0, .null]))) r m0 o (i3 n) = some (h', m0 + 12, r.2.1 - 11, r.2.2 - 65) ∧ h' m0 = some (.inr (4, rdF (qR m0 o) (i3 n) (m0 + 10) 0 0 0 0 0 0)) ∧ h' (m0 + 1) = some (.inr (2, [.ref (m0 + 2), .ref (m0 + 3), .int 0, .int 0, .null, .null])) ∧ h' (m0 + 2) = some (.inr (10, [.int 0, .ref (K 0), .int 0])) ∧ h' (m0 + 3) = some (.inr (10, [.int 0, .ref (K 0), .int 0])) ∧ SC h' o (m0 + 4) (fun i => m0 + 5 + i) (fun _ _ => 0) 0 ∧ TXA K h' (m0 + 9) [0, 1, 2] ∧ TXA K h' (m0 + 10) [3, 4, 5, 6, 7] ∧ TXA K h' (m0 + 11) [8, 9, 10, 3, 11, 7] ∧ FR h' (m0 + 12) ∧ ∀ p, p < m0 → h' p = hb p := by
  obtain ⟨rn, rc, rs⟩ := r
  dsimp only at hr h1 h2
  subst hr
  -- the service
  obtain ⟨k5, hk5⟩ : ∃ k5, hup (hup (hup (hup (hup (hup hb m0 (.inr (4, [.int 0, .ref (m0 + 1), .null, .null, .null, .null, .null, .int 0, .int 0, .int 0, .int 0, .int 0, .int 0, .ref o]))) (m0 + 1) (.inr (2, [.ref (m0 + 2), .ref (m0 + 3), .int 0, .int 0, .null, .null]))) (m0 + 2) (.inr (10, [.int 0, .ref (K 0), .int 0]))) (m0 + 3) (.inr (10, [.int 0, .ref (K 0), .int 0]))) (m0 + 4) (.inr (3, [.null, .null, .null, .null, .int 0, .null]))) m0 (.inr (4, [.int 0, .ref (m0 + 1), .null, .null, .null, .null, .null, .int 0, .int 0, .int 0, .int 0, .int 0, .int 0, .ref o])) = k5 := ⟨_, rfl⟩
  have v0 : k5 m0 = some (.inr (4, [.int 0, .ref (m0 + 1), .null, .null, .null, .null, .null, .int 0, .int 0, .int 0, .int 0, .int 0, .int 0, .ref o])) := by rw [← hk5]; exact hup_s
  have v1 : k5 (m0 + 1) = some (.inr (2, [.ref (m0 + 2), .ref (m0 + 3), .int 0, .int 0, .null, .null])) := by rw [← hk5, hup_n (by omega), hup_n (by omega), hup_n (by omega), hup_n (by omega), hup_s]
  have v2 : k5 (m0 + 2) = some (.inr (10, [.int 0, .ref (K 0), .int 0])) := by rw [← hk5, hup_n (by omega), hup_n (by omega), hup_n (by omega), hup_s]
  have v3 : k5 (m0 + 3) = some (.inr (10, [.int 0, .ref (K 0), .int 0])) := by rw [← hk5, hup_n (by omega), hup_n (by omega), hup_s]
  have v4 : k5 (m0 + 4) = some (.inr (3, [.null, .null, .null, .null, .int 0, .null])) := by rw [← hk5, hup_n (by omega), hup_s]
  have v5 : ∀ p, p < m0 → k5 p = hb p := fun p hp => by rw [← hk5, hup_n (by omega), hup_n (by omega), hup_n (by omega), hup_n (by omega), hup_n (by omega), hup_n (by omega)]
  have v6 : FR k5 (m0 + 5) := fun p hp => by rw [← hk5, hup_n (by omega), hup_n (by omega), hup_n (by omega), hup_n (by omega), hup_n (by omega), hup_n (by omega)]; exact hf p (by omega)
  obtain ⟨k7, c1, c2, c3, c4⟩ := C3_init_eq (o := o) (r := (m0 + 1 + 1 + 2 + 1, rc - 1 - 2 - 1, rs - 6 - 6 - 6)) v4 (by dsimp only; omega) v6 (by dsimp only; omega) (by dsimp only; omega)
  dsimp only at c1 c2 c3 c4
  have u0 := (c4 m0 (by omega) (by omega)).trans v0
  have u1 := (c4 (m0 + 1) (by omega) (by omega)).trans v1
  have u2 := (c4 (m0 + 2) (by omega) (by omega)).trans v2
  have u3 := (c4 (m0 + 3) (by omega) (by omega)).trans v3
  -- the names
  obtain ⟨a9, ha9⟩ : ∃ x : CE, (.inl (5, 3, .inr (.inr (.inr (.inr (va_up (va_up (va_up (fun _ => none) 0 (some (K (10 + 0)))) 1 (some (K (10 + 1)))) 2 (some (K (10 + 2)))))))) : CE) = x := ⟨_, rfl⟩
  obtain ⟨a10, ha10⟩ : ∃ x : CE, (.inl (5, 5, .inr (.inr (.inr (.inr (va_up (va_up (va_up (va_up (va_up (fun _ => none) 0 (some (K (10 + 3)))) 1 (some (K (10 + 4)))) 2 (some (K (10 + 5)))) 3 (some (K (10 + 6)))) 4 (some (K (10 + 7)))))))) : CE) = x := ⟨_, rfl⟩
  obtain ⟨a11, ha11⟩ : ∃ x : CE, (.inl (5, 6, .inr (.inr (.inr (.inr (va_up (va_up (va_up (va_up (va_up (va_up (fun _ => none) 0 (some (K (10 + 8)))) 1 (some (K (10 + 9)))) 2 (some (K (10 + 10)))) 3 (some (K (10 + 3)))) 4 (some (K (10 + 11)))) 5 (some (K (10 + 7)))))))) : CE) = x := ⟨_, rfl⟩
  refine ⟨hup (hup (hup (hup k7 (m0 + 9) a9) (m0 + 10) a10) (m0 + 11) a11) m0 (.inr (4, rdF (qR m0 o) (i3 n) (m0 + 10) 0 0 0 0 0 0)), ?_, hup_s, by rw [hup_n (by omega), hup_n (by omega), hup_n (by omega), hup_n (by omega)]; exact u1, by rw [hup_n (by omega), hup_n (by omega), hup_n (by omega), hup_n (by omega)]; exact u2, by rw [hup_n (by omega), hup_n (by omega), hup_n (by omega), hup_n (by omega)]; exact u3, ?_, ?_, ?_, ?_, ?_, fun p hp => ?_⟩
  · have e5 : (hup (hup (hup (hup (hup (hup (hup hb m0 (.inr (4, [.int 0, .null, .null, .null, .null, .null, .null, .int 0, .int 0, .int 0, .int 0, .int 0, .int 0, .ref o]))) (m0 + 1) (.inr (2, [.null, .null, .int 0, .int 0, .null, .null]))) (m0 + 1 + 1) (.inr (10, [.int 0, .ref (K 0), .int 0]))) (m0 + 1 + 1 + 1) (.inr (10, [.int 0, .ref (K 0), .int 0]))) (m0 + 1) (.inr (2, [.ref (m0 + 1 + 1), .ref (m0 + 1 + 1 + 1), .int 0, .int 0, .null, .null]))) m0 (.inr (4, [.int 0, .ref (m0 + 1), .null, .null, .null, .null, .null, .int 0, .int 0, .int 0, .int 0, .int 0, .int 0, .ref o]))) (m0 + 1 + 1 + 2) (.inr (3, [.null, .null, .null, .null, .int 0, .null]))) = k5 := by
      rw [← hk5]
      funext p
      simp only [hup]
      repeat' split
      all_goals first | rfl | (exfalso; omega)
    have x3 : (hup (hup (hup (hup (hup hb m0 (.inr (4, [.int 0, .null, .null, .null, .null, .null, .null, .int 0, .int 0, .int 0, .int 0, .int 0, .int 0, .ref o]))) (m0 + 1) (.inr (2, [.null, .null, .int 0, .int 0, .null, .null]))) (m0 + 1 + 1) (.inr (10, [.int 0, .ref (K 0), .int 0]))) (m0 + 1 + 1 + 1) (.inr (10, [.int 0, .ref (K 0), .int 0]))) (m0 + 1) (.inr (2, [.ref (m0 + 1 + 1), .ref (m0 + 1 + 1 + 1), .int 0, .int 0, .null, .null]))) m0 = some (.inr (4, [.int 0, .null, .null, .null, .null, .null, .null, .int 0, .int 0, .int 0, .int 0, .int 0, .int 0, .ref o])) := by rw [hup_n (by omega), hup_n (by omega), hup_n (by omega), hup_n (by omega), hup_s]
    unfold C5_init
    rw [pQ_of hup_s (show 13 < 14 by decide), Option.bind_some, hup_hup, show [Value.int 0, .null, .null, .null, .null, .null, .null, .int 0, .int 0, .int 0, .int 0, .int 0, .int 0, .null].set 13 (va_rf (some o)) = [.int 0, .null, .null, .null, .null, .null, .null, .int 0, .int 0, .int 0, .int 0, .int 0, .int 0, .ref o] from rfl, aCell_of (by dsimp only; omega) (by dsimp only; omega), Option.bind_some]
    dsimp only
    rw [achv_of (C2_init_eq (K := K) (r := (m0 + 1 + 1, rc - 1, rs - 6)) hup_s (Nat.lt_succ_self _) (by dsimp only; omega) (by dsimp only; omega)) (Nat.sub_le _ _) (Nat.sub_le _ _), Option.bind_some]
    dsimp only
    rw [pQ_of x3 (show 1 < 14 by decide), Option.bind_some, show [.int 0, .null, .null, .null, .null, .null, .null, .int 0, .int 0, .int 0, .int 0, .int 0, .int 0, .ref o].set 1 (va_rf (some (m0 + 1))) = [.int 0, .ref (m0 + 1), .null, .null, .null, .null, .null, .int 0, .int 0, .int 0, .int 0, .int 0, .int 0, .ref o] from rfl, aCell_of (by dsimp only; omega) (by dsimp only; omega), Option.bind_some]
    dsimp only
    rw [e5, gR_of v0 (k := 13) rfl, Option.bind_some, show m0 + 1 + 1 + 2 = m0 + 4 from rfl, achv_of c1 (Nat.sub_le _ _) (Nat.sub_le _ _), Option.bind_some]
    dsimp only
    rw [pQ_of u0 (show 2 < 14 by decide), Option.bind_some, show aArrQ _ _ 5 3 = _ from aArrQ_of (n := 3) (by dsimp only; omega) (by dsimp only; omega) (by decide), Option.bind_some]
    dsimp only
    rw [sQ_s (x := 0) (i := 0) rfl (by decide) (by decide), Option.bind_some, sQ_s (x := 1) (i := 1) rfl (by decide) (by decide), Option.bind_some, sQ_s (x := 2) (i := 2) rfl (by decide) (by decide), Option.bind_some, ha9]
    rw [pQ_of (show hup (hup k7 m0 _) (m0 + 1 + 1 + 2 + 1 + 4) a9 m0 = _ by rw [hup_n (by omega), hup_s]) (show 3 < 14 by decide), Option.bind_some, show aArrQ _ _ 5 5 = _ from aArrQ_of (n := 5) (by dsimp only; omega) (by dsimp only; omega) (by decide), Option.bind_some]
    dsimp only
    rw [sQ_s (x := 0) (i := 0) rfl (by decide) (by decide), Option.bind_some, sQ_s (x := 1) (i := 1) rfl (by decide) (by decide), Option.bind_some, sQ_s (x := 2) (i := 2) rfl (by decide) (by decide), Option.bind_some, sQ_s (x := 3) (i := 3) rfl (by decide) (by decide), Option.bind_some, sQ_s (x := 4) (i := 4) rfl (by decide) (by decide), Option.bind_some, ha10]
    rw [pQ_of (show hup (hup (hup (hup k7 m0 _) (m0 + 1 + 1 + 2 + 1 + 4) a9) m0 _) (m0 + 1 + 1 + 2 + 1 + 4 + 1) a10 m0 = _ by rw [hup_n (by omega), hup_s]) (show 4 < 14 by decide), Option.bind_some, show aArrQ _ _ 5 6 = _ from aArrQ_of (n := 6) (by dsimp only; omega) (by dsimp only; omega) (by decide), Option.bind_some]
    dsimp only
    rw [sQ_s (x := 0) (i := 0) rfl (by decide) (by decide), Option.bind_some, sQ_s (x := 1) (i := 1) rfl (by decide) (by decide), Option.bind_some, sQ_s (x := 2) (i := 2) rfl (by decide) (by decide), Option.bind_some, sQ_s (x := 3) (i := 3) rfl (by decide) (by decide), Option.bind_some, sQ_s (x := 4) (i := 4) rfl (by decide) (by decide), Option.bind_some, sQ_s (x := 5) (i := 5) rfl (by decide) (by decide), Option.bind_some, ha11]
    rw [pQ_of (show hup (hup (hup (hup (hup (hup k7 m0 _) (m0 + 1 + 1 + 2 + 1 + 4) a9) m0 _) (m0 + 1 + 1 + 2 + 1 + 4 + 1) a10) m0 _) (m0 + 1 + 1 + 2 + 1 + 4 + 1 + 1) a11 m0 = _ by rw [hup_n (by omega), hup_s]) (show 5 < 14 by decide), Option.bind_some, gR_of hup_s (k := 4) rfl, Option.bind_some, pQ_of hup_s (show 6 < 14 by decide), Option.bind_some, hup_hup, pI_of hup_s (show 0 < 14 by decide), Option.bind_some, hup_hup]
    congr 2
    · funext p
      simp only [hup]
      repeat' split
      all_goals first | rfl | (exfalso; omega)
  · obtain ⟨s1, s2, s3, s4, s5⟩ := c2
    have e : ∀ p, m0 < p → p < m0 + 9 → hup (hup (hup (hup k7 (m0 + 9) a9) (m0 + 10) a10) (m0 + 11) a11) m0 (.inr (4, rdF (qR m0 o) (i3 n) (m0 + 10) 0 0 0 0 0 0)) p = k7 p := fun p p1 p2 => by rw [hup_n (by omega), hup_n (by omega), hup_n (by omega), hup_n (by omega)]
    dsimp only at s2
    rw [show m0 + 1 + 1 + 2 + 1 + 0 = m0 + 5 + 0 by omega] at s2
    dsimp only at s3
    rw [show m0 + 1 + 1 + 2 + 1 + 1 = m0 + 5 + 1 by omega] at s3
    dsimp only at s4
    rw [show m0 + 1 + 1 + 2 + 1 + 2 = m0 + 5 + 2 by omega] at s4
    dsimp only at s5
    rw [show m0 + 1 + 1 + 2 + 1 + 3 = m0 + 5 + 3 by omega] at s5
    exact ⟨(e (m0 + 4) (by omega) (by omega)).trans s1, (e (m0 + 5 + 0) (by omega) (by omega)).trans s2, (e (m0 + 5 + 1) (by omega) (by omega)).trans s3, (e (m0 + 5 + 2) (by omega) (by omega)).trans s4, (e (m0 + 5 + 3) (by omega) (by omega)).trans s5⟩
  · refine ⟨_, by rw [hup_n (by omega), hup_n (by omega), hup_n (by omega), hup_s, ← ha9]; rfl, fun i hi => ?_⟩
    have hi2 : i < 3 := hi
    have : i = 0 ∨ i = 1 ∨ i = 2 := by omega
    rcases this with rfl | rfl | rfl <;> rfl
  · refine ⟨_, by rw [hup_n (by omega), hup_n (by omega), hup_s, ← ha10]; rfl, fun i hi => ?_⟩
    have hi2 : i < 5 := hi
    have : i = 0 ∨ i = 1 ∨ i = 2 ∨ i = 3 ∨ i = 4 := by omega
    rcases this with rfl | rfl | rfl | rfl | rfl <;> rfl
  · refine ⟨_, by rw [hup_n (by omega), hup_s, ← ha11]; rfl, fun i hi => ?_⟩
    have hi2 : i < 6 := hi
    have : i = 0 ∨ i = 1 ∨ i = 2 ∨ i = 3 ∨ i = 4 ∨ i = 5 := by omega
    rcases this with rfl | rfl | rfl | rfl | rfl | rfl <;> rfl
  · intro p hp
    rw [hup_n (by omega), hup_n (by omega), hup_n (by omega), hup_n (by omega)]
    exact c3 p (by omega)
  · rw [hup_n (by omega), hup_n (by omega), hup_n (by omega), hup_n (by omega), c4 p (by omega) (by omega)]
    exact v5 p hp
end CINIT
