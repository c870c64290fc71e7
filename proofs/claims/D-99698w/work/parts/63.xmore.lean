/-! ===== binds that hand on what was thrown ===== -/
def xk {α δ : Type} (j : XT → δ) (w : α ⊕ XT) (f : α → Option δ) : Option δ := match w with
  | .inl a => f a
  | .inr e => some (j e)
def xg {α δ : Type} (j : XT → δ) (x : Option (α ⊕ XT)) (f : α → Option δ) : Option δ := x.bind fun w => xk j w f
theorem xg_inv {α δ : Type} {j : XT → δ} {x : Option (α ⊕ XT)} {f : α → Option δ} {z : δ} (h : xg j x f = some z) : (∃ a, x = some (.inl a) ∧ f a = some z) ∨ ∃ e, x = some (.inr e) ∧ j e = z := by
  unfold xg at h
  obtain ⟨w, h1, h2⟩ := o_bind h
  cases w with
  | inl a => exact Or.inl ⟨a, h1, h2⟩
  | inr e => exact Or.inr ⟨e, h1, Option.some.inj h2⟩
theorem xg_bind {α δ : Type} {j : XT → δ} {x : Option (α ⊕ XT)} {f : α → Option δ} {z : δ} (h : xg j x f = some z) : ∃ w, x = some w ∧ xk j w f = some z := o_bind h
theorem xk_l {α δ : Type} {j : XT → δ} {w : α ⊕ XT} {a : α} {f : α → Option δ} {z : δ} (h : xk j w f = some z) (e : w = .inl a) : f a = some z := by
  subst e
  exact h
theorem xk_r {α δ : Type} {j : XT → δ} {w : α ⊕ XT} {e : XT} {f : α → Option δ} {z : δ} (h : xk j w f = some z) (hw : .inr e = w) : j e = z := by
  subst hw
  exact Option.some.inj h
theorem vcx_inv {α : Type} {h : CH} {a c : Nat} {x : Option α} {z : α} (e : vc h a c x = some z) : isC h a c = true ∧ x = some z := vc_inv e
section ROWS63
variable {p : Program} {l : Launch} {e : Env} {R : Room} {s : State} {m : MethodId} {args : Array Value} {below : List Frame} {meth : Method} {c : Code} {H : Heap} {locs : List Loc} {cells slots : Nat} {Q : State → Prop}
variable {nL pc : Nat} {ls : Array Slot} {rest : List Value} {γ : KG} {h : CH} {r : CR} {σ0 : CS} {cc : ByteArray} {own : String}
theorem t_athrow (X : cCtx p s m args c cc nL own γ) (hA : AI γ σ0 s R h r H locs cells slots) {q : Nat} (hq : isC h q 5 = true) (hdg : decode cc pc = .ok (.athrow, 1))
    (kk : kTh (2, q, h, r) s H q → vx_W p l e R s m args below meth c H locs cells slots Q (F0 m pc ls rest) q) : W p l e R s m args below meth c H locs cells slots Q (F0 m pc ls (.ref q :: rest)) := by
  obtain ⟨⟨hx, hb, hml, hown, hts⟩, hO, hD⟩ := X
  obtain ⟨fs, he⟩ := isC_inv hq
  obtain ⟨r', h1, cell, q1, q2, q3, q4⟩ := (hA.1.1 q _ he).1
  have hr : r' = (RX6, TX6, 7) := Option.some.inj (h1.symm.trans kc_Wrong.1)
  subst hr
  obtain ⟨cellB, g1, g2, g3⟩ := c_recv kc_Wrong hO hD hA.1.1 hq
  cases g1.symm.trans q1
  exact vx_athrow hx hb hdg (kk ⟨fun _ => rfl, cell, q1, q3, g3⟩)
end ROWS63
theorem xMet.i {l : Launch} {y : MethodName} {ws : List Cond} {f lo : Nat} {γ : KG} {σ : CS} {As : List Value} {q : Int32 × CS} (h : xMet l y ws f lo γ σ As (xI (.inl q))) : aMet l y ws f lo γ σ As (some (.int q.1)) q.2 := h
theorem xMet.r {l : Launch} {y : MethodName} {ws : List Cond} {f lo : Nat} {γ : KG} {σ : CS} {As : List Value} {q : Nat × CS} (h : xMet l y ws f lo γ σ As (xR (.inl q))) : aMet l y ws f lo γ σ As (some (.ref q.1)) q.2 := h
theorem xMet.v {l : Launch} {y : MethodName} {ws : List Cond} {f lo : Nat} {γ : KG} {σ : CS} {As : List Value} {q : CS} (h : xMet l y ws f lo γ σ As (xV (.inl q))) : aMet l y ws f lo γ σ As none q := h
theorem xMet.ti {l : Launch} {y : MethodName} {ws : List Cond} {f lo : Nat} {γ : KG} {σ : CS} {As : List Value} {x : XT} (h : xMet l y ws f lo γ σ As (xI (.inr x))) : xMet l y ws f lo γ σ As (.inr x) := h
theorem xMet.tr {l : Launch} {y : MethodName} {ws : List Cond} {f lo : Nat} {γ : KG} {σ : CS} {As : List Value} {x : XT} (h : xMet l y ws f lo γ σ As (xR (.inr x))) : xMet l y ws f lo γ σ As (.inr x) := h
theorem xMet.tv {l : Launch} {y : MethodName} {ws : List Cond} {f lo : Nat} {γ : KG} {σ : CS} {As : List Value} {x : XT} (h : xMet l y ws f lo γ σ As (xV (.inr x))) : xMet l y ws f lo γ σ As (.inr x) := h
