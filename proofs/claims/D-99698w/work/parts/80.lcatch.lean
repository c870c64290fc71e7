/-! ===== the law's handlers ===== -/
section LC80
variable {p : Program} {l : Launch} {e : Env} {R : Room} {s : State} {m : MethodId} {args : Array Value} {below : List Frame} {meth : Method} {c : Code} {H : Heap} {locs : List Loc} {cells slots : Nat} {Q : State → Prop}
variable {nL pc : Nat} {ls : Array Slot} {rest : List Value} {γ : KG} {x : XT} {cc : ByteArray} {own : String}
theorem t_catchE (X : cCtx p s m args c cc nL own γ) {t : ExceptionTableEntry} {pre suf : List ExceptionTableEntry} {q : Addr} (k : Nat) (htab : c.exceptionTable.toList = pre ++ t :: suf)
    (hpass : ∀ z ∈ pre, covers z pc = false ∨ (z.catchType ≠ 0 ∧ ∃ nm : String, (Cond.classLink own z.catchType nm).before args s = true ∧ va_Nc (kE k) nm s)) (hcov : covers t pc = true) (hct : t.catchType ≠ 0) (hlink : Cond.classLink own t.catchType (kE k) ∈ lw_all) (hcast : Cond.castable (kE k) (kE k) ∈ lw_tbl) (hq : kTh x s H q) (h2 : x.1 = k)
    (kk : W p l e R s m args below meth c H locs cells slots Q (F0 m t.handlerPc ls [.ref q])) : vx_W p l e R s m args below meth c H locs cells slots Q (F0 m pc ls rest) q := by
  obtain ⟨⟨hx, hb, hml, hown, hts⟩, hO, hD⟩ := X
  obtain ⟨g1, ce, g2, g3, g4⟩ := hq
  rw [h2] at g4
  exact vx_catch hown pre t suf htab hpass hcov hct (hts _ hlink) (c_tb hO hD hcast (Cond.castable_setVm hD.1.alike _ _) rfl) g2 g3 g4 kk
end LC80
