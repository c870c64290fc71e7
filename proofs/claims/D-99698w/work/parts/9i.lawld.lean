/-! ===== the law reads its script ===== -/
section LD9I
variable {p : Program} {l : Launch} {e : Env} {R : Room} {s : State} {m : MethodId} {args : Array Value} {below : List Frame} {meth : Method} {c : Code} {H : Heap} {locs : List Loc} {cells slots : Nat} {Q : State → Prop}
variable {nL pc : Nat} {ls : Array Slot} {rest : List Value} {γ : KG} {cc : ByteArray} {own : String} {b L i k : Nat} {xs : Nat → Int32} {A : Nat → Prop}
/-- script[i + k], both on the stack and added -/
theorem sc_ld (X : cCtx p s m args c cc nL own γ) (hX : va_X b L xs s s.heap) (hb : b < s.heap.size) (hA : ∀ q, A q → s.heap.size ≤ q) (hS : va_S A s.heap H locs) (hi : i + k < L) (hL : L ≤ 384) (hd1 : decode cc pc = .ok (.iadd, 1)) (hd2 : decode cc (pc + 1) = .ok (.iaload, 1)) {x : Int32} (hx : x = i3 k)
    (kk : W p l e R s m args below meth c H locs cells slots Q (F0 m (pc + 1 + 1) ls (.int (xs (i + k)) :: rest))) : W p l e R s m args below meth c H locs cells slots Q (F0 m pc ls (.int x :: .int (i3 i) :: .ref b :: rest)) := by
  subst hx
  have hx := X.1.1
  have hbb := X.1.2.1
  refine lv_iadd hx hbb hd1 ?_
  rw [show i3 i + i3 k = i3 (i + k) from i3_add _ _]
  have hn : (i3 (i + k)).toNatClampNeg = i + k := i3_nat (by omega)
  refine va_sld hx hbb hX hb (fun y => absurd (hA b y) (by omega)) hS (i := i3 (i + k)) ?_ hd2 ?_
  · rintro (y | y)
    · exact i3_nn (by omega) y
    · rw [hn] at y; omega
  · rw [hn]; exact kk
end LD9I
