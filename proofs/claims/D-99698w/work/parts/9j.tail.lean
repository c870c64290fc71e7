/-! ===== what follows when both have answered ===== -/
section TAIL9J
variable {p : Program} {l : Launch} {e : Env} {R : Room} {s : State} {m : MethodId} {args : Array Value} {below : List Frame} {meth : Method} {c : Code} {H : Heap} {locs : List Loc} {cells slots : Nat} {Q : State → Prop}
variable {pc pc2 : Nat} {ls : Array Slot} {γ : KG} {h : CH} {r : CR} {σ0 : CS} {cc : ByteArray} {own : String} {om out ob bs : Nat} {ad : Nat → Nat} {σ : MS} {w : Nat → Int64} {i k v : Int32}
/-- out[0] -/
theorem l_out (X : cCtx p s m args c cc 7 own γ) (hL : LI γ σ0 s R om ad out h r σ w H locs cells slots) (hdg : decode cc pc = .ok (.laload, 1)) {rest : List Value}
    (kk : W p l e R s m args below meth c H locs cells slots Q (F0 m (pc + 1) ls (.long (w 0) :: rest))) : W p l e R s m args below meth c H locs cells slots Q (F0 m pc ls (.int 0 :: .ref out :: rest)) := by
  refine c_lald X hL.pre.1.1 (a := out) (i := 0) (v := w 0) ?_ hdg kk
  unfold aJ
  rw [hup_s]
  unfold ouC
  dsimp only
  rw [if_pos rfl, if_neg (by decide)]
  rfl
theorem lg_cmp_self (x : Int64) : lg_cmp x x = 0 := by
  unfold lg_cmp
  simp
theorem lc_tail (X : cCtx p s m args c cc 7 RX0 γ) (hL : LI γ σ0 s R om ad out h r σ w H locs cells slots) (hk : k = mf σ 0) (hv : k = 0 → w 0 = v.toInt64) (hl : lv_has ls 7 [(6, .int v), (5, .int k), (0, .ref bs), (1, .ref ob), (2, .ref om), (3, .ref out), (4, .int i)])
    (hR : 1 ≤ R.frames ∧ 100 ≤ R.locals) (d0 : decode cc pc = .ok (.aload_n 2, 1)) (d1 : decode cc (pc + 1) = .ok (.invokevirtual 138, 3)) (d2 : decode cc (pc + 1 + 3) = .ok (.iload 5, 2)) (d3 : decode cc (pc + 1 + 3 + 2) = .ok (.if_icmp .eq 5, 3)) (d4 : decode cc (pc + 11) = .ok (.iload 5, 2)) (d5 : decode cc (pc + 11 + 2) = .ok (.ifCond .ne 15, 3)) (d6 : decode cc (pc + 11 + 2 + 3) = .ok (.aload_n 3, 1)) (d7 : decode cc (pc + 11 + 2 + 3 + 1) = .ok (.iconst 0, 1)) (d8 : decode cc (pc + 11 + 2 + 3 + 1 + 1) = .ok (.laload, 1)) (d9 : decode cc (pc + 11 + 2 + 3 + 1 + 1 + 1) = .ok (.iload 6, 2)) (d10 : decode cc (pc + 11 + 2 + 3 + 1 + 1 + 1 + 2) = .ok (.i2l, 1)) (d11 : decode cc (pc + 11 + 2 + 3 + 1 + 1 + 1 + 2 + 1) = .ok (.lcmp, 1)) (d12 : decode cc (pc + 11 + 2 + 3 + 1 + 1 + 1 + 2 + 1 + 1) = .ok (.ifCond .eq 5, 3))
    (kk : W p l e R s m args below meth c H locs cells slots Q (F0 m (pc + 28) ls [])) : W p l e R s m args below meth c H locs cells slots Q (F0 m pc ls []) := by
  have hx := X.1.1
  have hb := X.1.2.1
  refine lv_aload_n hx hb d0 rfl (lv_at hl 4 rfl) ?_
  refine l_cMr X hL (wM_thrown l γ.1 γ.2.1 om ad σ _ rfl) nm_X4_thrown q1832 q1833 q141 q1835 q1834 ⟨by omega, by omega⟩ rfl rfl hl.1 (lv_room (Nat.le_of_ble_eq_true rfl)) d1 ?_
  refine lv_iload hx hb d2 (lv_at hl 1 rfl) ?_
  refine lv_icmp_eq (tgt := pc + 11) hx hb d3 (by omega) (fun _ => ?_) (fun x => absurd hk.symm x)
  refine lv_iload hx hb d4 (lv_at hl 1 rfl) ?_
  refine lv_if_ne (tgt := pc + 28) hx hb d5 (by omega) (fun _ => kk) (fun k0 => ?_)
  refine lv_aload_n hx hb d6 rfl (lv_at hl 5 rfl) ?_
  refine lv_iconst (v := 0) hx hb d7 (by decide) ?_
  refine l_out X hL d8 ?_
  refine lv_iload hx hb d9 (lv_at hl 0 rfl) ?_
  refine lv_i2l hx hb d10 rfl ?_
  refine W.lcmp hx hb d11 ?_
  rw [hv k0]
  refine lv_if_eq (tgt := pc + 28) hx hb d12 (by omega) (fun _ => kk) (fun x => absurd (lg_cmp_self _) x)
end TAIL9J
