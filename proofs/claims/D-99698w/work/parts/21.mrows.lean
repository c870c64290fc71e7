/-! ===== the reference's state: ints by field, the one long, the arrays by field and place ===== -/
abbrev MS : Type := (Nat → Int32) × Int64 × (Nat → Nat → Int32)
def mf (σ : MS) (k : Nat) : Int32 := σ.1 k
def mw (σ : MS) : Int64 := σ.2.1
def ma (σ : MS) (j i : Nat) : Int32 := σ.2.2 j i
def sf (σ : MS) (k : Nat) (v : Int32) : MS := (fun q => if q = k then v else σ.1 q, σ.2)
def sw (σ : MS) (v : Int64) : MS := (σ.1, v, σ.2.2)
def sa (σ : MS) (j i : Nat) (v : Int32) : MS := (σ.1, σ.2.1, fun q => if q = j then upd (σ.2.2 q) i v else σ.2.2 q)
def pf (σ : MS) (k : Nat) (v : Int32) : Option MS := some (sf σ k v)
def pw (σ : MS) (v : Int64) : Option MS := some (sw σ v)
def mA (k : Nat) : Bool := decide (k ∈ [7, 8, 9, 10, 11, 12, 16, 36, 37, 38, 39, 40, 41, 42, 43, 44, 45, 47, 48, 49, 50, 52, 53, 54, 59, 60, 61])
abbrev marr : List Nat := [7, 8, 9, 10, 11, 12, 16, 36, 37, 38, 39, 40, 41, 42, 43, 44, 45, 47, 48, 49, 50, 52, 53, 54, 59, 60, 61]
def mlen (j : Nat) : Nat := match j with
  | 7 => 36
  | 8 => 6
  | 9 => 12
  | 10 => 12
  | 11 => 1400
  | 12 => 700
  | 16 => 3
  | 36 => 36
  | 37 => 6
  | 38 => 12
  | 39 => 12
  | 40 => 34
  | 41 => 1400
  | 42 => 950
  | 43 => 9
  | 44 => 68
  | 45 => 1360
  | 47 => 9
  | 48 => 950
  | 49 => 512
  | 50 => 5120
  | 52 => 32
  | 53 => 6
  | 54 => 324
  | 59 => 34
  | 60 => 1360
  | 61 => 32
  | _ => 0
theorem mlen_lt (j : Nat) : mlen j < 2 ^ 31 := by
  unfold mlen
  split <;> decide
def ald (σ : MS) (j : Nat) (i : Int32) : Option Int32 := if i < 0 ∨ mlen j ≤ i.toNatClampNeg then none else some (ma σ j i.toNatClampNeg)
def ast (σ : MS) (j : Nat) (i v : Int32) : Option MS := if i < 0 ∨ mlen j ≤ i.toNatClampNeg then none else some (sa σ j i.toNatClampNeg v)
/-- into the array of booleans: the lowest bit -/
def astZ (σ : MS) (j : Nat) (i v : Int32) : Option MS := if i < 0 ∨ mlen j ≤ i.toNatClampNeg then none else some (sa σ j i.toNatClampNeg (vp_nar .boolean v))
def alen (j : Nat) : Int32 := Int32.ofNat (mlen j)
def idv (a b : Int32) : Option Int32 := if b = 0 then none else some (a / b)
def irm (a b : Int32) : Option Int32 := if b = 0 then none else some (a - a / b * b)
theorem ald_inv {σ : MS} {j : Nat} {i v : Int32} (h : ald σ j i = some v) : vp_in i (mlen j) ∧ ma σ j i.toNatClampNeg = v := by
  unfold ald at h
  split at h
  · cases h
  · next hn => exact ⟨hn, Option.some.inj h⟩
theorem ast_inv {σ σ' : MS} {j : Nat} {i v : Int32} (h : ast σ j i v = some σ') : vp_in i (mlen j) ∧ sa σ j i.toNatClampNeg v = σ' := by
  unfold ast at h
  split at h
  · cases h
  · next hn => exact ⟨hn, Option.some.inj h⟩
theorem astZ_inv {σ σ' : MS} {j : Nat} {i v : Int32} (h : astZ σ j i v = some σ') : vp_in i (mlen j) ∧ sa σ j i.toNatClampNeg (vp_nar .boolean v) = σ' := by
  unfold astZ at h
  split at h
  · cases h
  · next hn => exact ⟨hn, Option.some.inj h⟩
theorem idv_inv {a b v : Int32} (h : idv a b = some v) : ¬ b = 0 ∧ a / b = v := by
  unfold idv at h
  split at h
  · cases h
  · next hn => exact ⟨hn, Option.some.inj h⟩
theorem irm_inv {a b v : Int32} (h : irm a b = some v) : ¬ b = 0 ∧ a - a / b * b = v := by
  unfold irm at h
  split at h
  · cases h
  · next hn => exact ⟨hn, Option.some.inj h⟩
/-! ===== its cells ===== -/
def mV (ad : Nat → Nat) (σ : MS) (k : Nat) : Value := match mA k with
  | true => .ref (ad k)
  | false => if k = 24 then .long (mw σ) else .int (mf σ k)
def mfs (ad : Nat → Nat) (σ : MS) : List Value := (List.range 62).map (mV ad σ)
def mcls (dT : Nat → ClassId) (j : Nat) : ClassId := if j = 43 then dT 1 else dT 0
def mac (dT : Nat → ClassId) (ad : Nat → Nat) (σ : MS) (j : Nat) : Nat × va_E := (ad j, .inl (mcls dT j, mlen j, .inl (ma σ j)))
def mcells (dT : Nat → ClassId) (o : Nat) (ad : Nat → Nat) (σ : MS) : va_W := (o, .inr (0, mfs ad σ)) :: marr.map (mac dT ad σ)
def mAd (o : Nat) (ad : Nat → Nat) : Nat → Prop := fun q => q = o ∨ ∃ j, j ∈ marr ∧ q = ad j
/-- the heap holds the reference -/
def MH (G : va_G) (dT : Nat → ClassId) (o : Nat) (ad : Nat → Nat) (σ : MS) (H : Heap) : Prop := va_P G kCL (mcells dT o ad σ) H ∧ va_D (mAd o ad) (mcells dT o ad σ)
theorem mfs_at {ad : Nat → Nat} {σ : MS} {k : Nat} (hk : k < 62) : (mfs ad σ)[k]? = some (mV ad σ k) := by
  unfold mfs
  rw [List.getElem?_map, List.getElem?_range hk]
  rfl
theorem mcells_at {dT : Nat → ClassId} {o : Nat} {ad : Nat → Nat} {σ : MS} {i j : Nat} (h : marr[i]? = some j) : (mcells dT o ad σ)[i + 1]? = some (mac dT ad σ j) := by
  unfold mcells
  rw [List.getElem?_cons_succ, List.getElem?_map, h]
  rfl
theorem mfs_set {ad : Nat → Nat} {σ : MS} {k : Nat} {v : Int32} (hA : mA k = false) (h24 : k ≠ 24) : (mfs ad σ).set k (.int v) = mfs ad (sf σ k v) := by
  apply List.ext_getElem?
  intro q
  unfold mfs
  rw [List.getElem?_set, List.getElem?_map, List.getElem?_map]
  by_cases hq : q < 62
  · rw [List.getElem?_range hq]
    by_cases e : k = q
    · subst e
      rw [if_pos rfl]
      simp [mV, hA, h24, sf, mf, hq]
    · rw [if_neg e]
      simp only [Option.map_some, mV, sf, mf, mw, if_neg (Ne.symm e)]
  · have : (List.range 62)[q]? = none := by simp; omega
    rw [this]
    by_cases e : k = q
    · subst e
      simp; omega
    · rw [if_neg e]; rfl
theorem mfs_setw {ad : Nat → Nat} {σ : MS} {v : Int64} : (mfs ad σ).set 24 (.long v) = mfs ad (sw σ v) := by
  apply List.ext_getElem?
  intro q
  unfold mfs
  rw [List.getElem?_set, List.getElem?_map, List.getElem?_map]
  by_cases hq : q < 62
  · rw [List.getElem?_range hq]
    by_cases e : 24 = q
    · subst e
      rw [if_pos rfl]
      simp [mV, mA, sw, mw]
    · rw [if_neg e]
      simp only [Option.map_some, mV, sw, mf, mw, if_neg (Ne.symm e)]
  · have : (List.range 62)[q]? = none := by simp; omega
    rw [this]
    by_cases e : 24 = q
    · subst e
      simp at hq
    · rw [if_neg e]; rfl
theorem mcells_set0 {dT : Nat → ClassId} {o : Nat} {ad : Nat → Nat} {σ : MS} {k : Nat} {v : Int32} (hA : mA k = false) (h24 : k ≠ 24) : (mcells dT o ad σ).set 0 (o, .inr (0, (mfs ad σ).set k (.int v))) = mcells dT o ad (sf σ k v) := by
  rw [mfs_set hA h24]
  rfl
theorem mcells_setw {dT : Nat → ClassId} {o : Nat} {ad : Nat → Nat} {σ : MS} {v : Int64} : (mcells dT o ad σ).set 0 (o, .inr (0, (mfs ad σ).set 24 (.long v))) = mcells dT o ad (sw σ v) := by
  rw [mfs_setw]
  rfl
theorem ma_sa {σ : MS} {j i : Nat} {v : Int32} : ma (sa σ j i v) j = upd (ma σ j) i v := by
  funext x
  simp [ma, sa, upd]
theorem ma_sb {σ : MS} {j i q : Nat} {v : Int32} (h : q ≠ j) : ma (sa σ j i v) q = ma σ q := by
  funext x
  simp [ma, sa, h]
theorem marr_nd : marr.Nodup := by decide
theorem mfs_sa {ad : Nat → Nat} {σ : MS} {j i : Nat} {v : Int32} : mfs ad (sa σ j i v) = mfs ad σ := rfl
theorem mcells_seta {dT : Nat → ClassId} {o : Nat} {ad : Nat → Nat} {σ : MS} {p j i : Nat} {v : Int32} (h : marr[p]? = some j) : (mcells dT o ad σ).set (p + 1) (ad j, .inl (mcls dT j, mlen j, .inl (upd (ma σ j) i v))) = mcells dT o ad (sa σ j i v) := by
  unfold mcells
  rw [List.set_cons_succ, mfs_sa]
  congr 1
  apply List.ext_getElem?
  intro q
  rw [List.getElem?_set, List.getElem?_map, List.getElem?_map]
  by_cases e : p = q
  · subst e
    have hl := (List.getElem?_eq_some_iff.mp h).1
    rw [if_pos rfl, if_pos (by rw [List.length_map]; exact hl), h]
    simp only [mac, Option.map_some, ma_sa]
  · rw [if_neg e]
    cases hq : marr[q]? with
    | none => rfl
    | some j' =>
      have hne : j' ≠ j := by
        intro hj
        subst hj
        have h1 := (List.getElem?_eq_some_iff.mp h).1
        exact e ((List.getElem?_inj h1 marr_nd).mp (h.trans hq.symm))
      simp only [mac, Option.map_some, ma_sb hne]
section MROWS
variable {p : Program} {l : Launch} {e : Env} {R : Room} {s : State} {m : MethodId} {args : Array Value} {below : List Frame} {meth : Method} {c : Code} {H : Heap} {locs : List Loc} {cells slots : Nat} {Q : State → Prop}
variable {nL pc : Nat} {ls : Array Slot} {rest : List Value} {G : va_G} {dT : Nat → ClassId} {o : Nat} {ad : Nat → Nat} {σ σ' : MS} {H0 : Heap} {cc : ByteArray} {index : Nat}
abbrev mCtx (p : Program) (s : State) (m : MethodId) (args : Array Value) (c : Code) (cc : ByteArray) (nL : Nat) (G : va_G) (dT : Nat → ClassId) : Prop := CallFix p m c cc nL s args lw_all RX4 ∧ kK G dT s
theorem m_get (X : mCtx p s m args c cc nL G dT) (hM : MH G dT o ad σ H) (k : Nat) {f d : String} (hlink : Cond.fieldLink RX4 index RX4 f d ∈ lw_all) (hT : TX4 k = (RX4, f, d, (TX4 k).2.2.2)) (hk : Nat.blt k 62 = true) {v : Value} (hv : mV ad σ k = v) (hdg : decode cc pc = .ok (.getfield index, 3))
    (kk : W p l e R s m args below meth c H locs cells slots Q (F0 m (pc + 3) ls (v :: rest))) : W p l e R s m args below meth c H locs cells slots Q (F0 m pc ls (.ref o :: rest)) := by
  obtain ⟨⟨hx, hb, hml, hown, hts⟩, hK⟩ := X
  have hk : k < 62 := Nat.blt_eq.mp hk
  refine va_get (own := RX4) (ref := RX4) (C := RX4) (T := TX4) (N := 62) (ci := 0) hx hb hts in_X4 hown hK hM.1 0 (fs := mfs ad σ) rfl rfl k hk (by rw [hT]; exact hts _ hlink) (fun x h => by rw [hT] at h ⊢; exact h) (by rw [mfs_at hk, hv]) hdg kk
theorem m_put (X : mCtx p s m args c cc nL G dT) (hM : MH G dT o ad σ H) (hS : va_S (mAd o ad) H0 H locs) (k : Nat) {f d : String} (hlink : Cond.fieldLink RX4 index RX4 f d ∈ lw_all) (hT : TX4 k = (RX4, f, d, false)) (hk : (Nat.blt k 62 && (!(mA k) && !(Nat.beq k 24))) = true) {ty : FieldType} {v : Int32} (hd : parseFieldDescriptor d = some ty) (hn : narrow ty (.int v) = .int v) (hfit : fits ty (.int v) = true) (hr : pf σ k v = some σ') (hdg : decode cc pc = .ok (.putfield index, 3))
    (kk : ∀ (H : Heap) (locs : List Loc), MH G dT o ad σ' H → va_S (mAd o ad) H0 H locs → W p l e R s m args below meth c H locs cells slots Q (F0 m (pc + 3) ls rest)) : W p l e R s m args below meth c H locs cells slots Q (F0 m pc ls (.int v :: .ref o :: rest)) := by
  obtain ⟨⟨hx, hb, hml, hown, hts⟩, hK⟩ := X
  simp only [Bool.and_eq_true, Bool.not_eq_true', Nat.blt_eq] at hk
  obtain ⟨hk, hA, h24⟩ := hk
  have h24 : k ≠ 24 := fun h => by subst h; exact absurd h24 (by decide)
  cases hr
  refine va_put (own := RX4) (ref := RX4) (C := RX4) (T := TX4) (N := 62) (ci := 0) hx hb hts in_X4 tyX4 tyX4_ok nmX4 hown hK hM.1 hM.2 hS 0 (fs := mfs ad σ) rfl rfl k hk (by rw [hT]; exact hts _ hlink) (fun x h => by rw [hT] at h ⊢; exact h) (by rw [hT]) (ty := ty) (by rw [hT]; exact hd) hn hfit (by unfold mfs; rw [List.length_map, List.length_range]; exact hk) hdg (fun H1 locs1 hP hD hS1 => ?_)
  rw [mcells_set0 hA h24] at hP hD
  exact kk H1 locs1 ⟨hP, hD⟩ hS1
theorem m_putw (X : mCtx p s m args c cc nL G dT) (hM : MH G dT o ad σ H) (hS : va_S (mAd o ad) H0 H locs) {v : Int64} (hlink : Cond.fieldLink RX4 index RX4 "word0" "J" ∈ lw_all) (hr : pw σ v = some σ') (hdg : decode cc pc = .ok (.putfield index, 3))
    (kk : ∀ (H : Heap) (locs : List Loc), MH G dT o ad σ' H → va_S (mAd o ad) H0 H locs → W p l e R s m args below meth c H locs cells slots Q (F0 m (pc + 3) ls rest)) : W p l e R s m args below meth c H locs cells slots Q (F0 m pc ls (.long v :: .ref o :: rest)) := by
  obtain ⟨⟨hx, hb, hml, hown, hts⟩, hK⟩ := X
  cases hr
  refine va_put (own := RX4) (ref := RX4) (C := RX4) (T := TX4) (N := 62) (ci := 0) hx hb hts in_X4 tyX4 tyX4_ok nmX4 hown hK hM.1 hM.2 hS 0 (fs := mfs ad σ) rfl rfl 24 (by decide) (hts _ hlink) (fun x h => h) rfl (ty := .long) rfl rfl rfl (by unfold mfs; rw [List.length_map, List.length_range]; decide) hdg (fun H1 locs1 hP hD hS1 => ?_)
  rw [mcells_setw] at hP hD
  exact kk H1 locs1 ⟨hP, hD⟩ hS1
theorem m_iald (X : mCtx p s m args c cc nL G dT) (hM : MH G dT o ad σ H) (i j : Nat) (hj : marr[i]? = some j) (h43 : Nat.beq j 43 = false) {x v : Int32} (hr : ald σ j x = some v) (hdg : decode cc pc = .ok (.iaload, 1))
    (kk : W p l e R s m args below meth c H locs cells slots Q (F0 m (pc + 1) ls (.int v :: rest))) : W p l e R s m args below meth c H locs cells slots Q (F0 m pc ls (.int x :: .ref (ad j) :: rest)) := by
  obtain ⟨⟨hx, hb, hml, hown, hts⟩, hK⟩ := X
  obtain ⟨hin, rfl⟩ := ald_inv hr
  have hc : mcls dT j = dT 0 := by
    unfold mcls
    rw [if_neg (fun h => by subst h; exact absurd h43 (by decide))]
  exact va_iald hx hb hK hM.1 (i + 1) 0 (cA := dT 0) (by rw [mcells_at hj]; unfold mac; rw [hc]) rfl hin hdg kk
theorem m_zald (X : mCtx p s m args c cc nL G dT) (hM : MH G dT o ad σ H) {x v : Int32} (hr : ald σ 43 x = some v) (hdg : decode cc pc = .ok (.baload, 1))
    (kk : W p l e R s m args below meth c H locs cells slots Q (F0 m (pc + 1) ls (.int v :: rest))) : W p l e R s m args below meth c H locs cells slots Q (F0 m pc ls (.int x :: .ref (ad 43) :: rest)) := by
  obtain ⟨⟨hx, hb, hml, hown, hts⟩, hK⟩ := X
  obtain ⟨hin, rfl⟩ := ald_inv hr
  exact va_zald hx hb hK hM.1 15 1 (cA := dT 1) (mcells_at (i := 14) rfl) rfl hin hdg kk
theorem m_iast (X : mCtx p s m args c cc nL G dT) (hM : MH G dT o ad σ H) (hS : va_S (mAd o ad) H0 H locs) (i j : Nat) (hj : marr[i]? = some j) (h43 : Nat.beq j 43 = false) {x v : Int32} (hr : ast σ j x v = some σ') (hdg : decode cc pc = .ok (.iastore, 1))
    (kk : ∀ (H : Heap) (locs : List Loc), MH G dT o ad σ' H → va_S (mAd o ad) H0 H locs → W p l e R s m args below meth c H locs cells slots Q (F0 m (pc + 1) ls rest)) : W p l e R s m args below meth c H locs cells slots Q (F0 m pc ls (.int v :: .int x :: .ref (ad j) :: rest)) := by
  obtain ⟨⟨hx, hb, hml, hown, hts⟩, hK⟩ := X
  obtain ⟨hin, rfl⟩ := ast_inv hr
  have hc : mcls dT j = dT 0 := by
    unfold mcls
    rw [if_neg (fun h => by subst h; exact absurd h43 (by decide))]
  refine va_iast hx hb hK hM.1 hM.2 hS (i + 1) 0 (cA := dT 0) (by rw [mcells_at hj]; unfold mac; rw [hc]) rfl hin hdg (fun H1 locs1 hP hD hS1 => ?_)
  rw [← hc, mcells_seta hj] at hP hD
  exact kk H1 locs1 ⟨hP, hD⟩ hS1
theorem m_zast (X : mCtx p s m args c cc nL G dT) (hM : MH G dT o ad σ H) (hS : va_S (mAd o ad) H0 H locs) {x v : Int32} (hr : astZ σ 43 x v = some σ') (hdg : decode cc pc = .ok (.bastore, 1))
    (kk : ∀ (H : Heap) (locs : List Loc), MH G dT o ad σ' H → va_S (mAd o ad) H0 H locs → W p l e R s m args below meth c H locs cells slots Q (F0 m (pc + 1) ls rest)) : W p l e R s m args below meth c H locs cells slots Q (F0 m pc ls (.int v :: .int x :: .ref (ad 43) :: rest)) := by
  obtain ⟨⟨hx, hb, hml, hown, hts⟩, hK⟩ := X
  obtain ⟨hin, rfl⟩ := astZ_inv hr
  refine va_zast hx hb hK hM.1 hM.2 hS 15 1 (cA := dT 1) (mcells_at (i := 14) rfl) rfl hin hdg (fun H1 locs1 hP hD hS1 => ?_)
  have h := fun (w : Int32) => mcells_seta (dT := dT) (o := o) (ad := ad) (σ := σ) (p := 14) (j := 43) (i := x.toNatClampNeg) (v := w) rfl
  exact kk H1 locs1 ⟨h _ ▸ hP, h _ ▸ hD⟩ hS1
theorem m_alen (X : mCtx p s m args c cc nL G dT) (hM : MH G dT o ad σ H) (i j : Nat) (hj : marr[i]? = some j) (hdg : decode cc pc = .ok (.arraylength, 1))
    (kk : W p l e R s m args below meth c H locs cells slots Q (F0 m (pc + 1) ls (.int (alen j) :: rest))) : W p l e R s m args below meth c H locs cells slots Q (F0 m pc ls (.ref (ad j) :: rest)) := by
  obtain ⟨⟨hx, hb, hml, hown, hts⟩, hK⟩ := X
  have ha := mcells_at (dT := dT) (o := o) (ad := ad) (σ := σ) hj
  by_cases h : j = 43
  · have hc : mcls dT j = dT 1 := by unfold mcls; rw [if_pos h]
    unfold mac at ha
    rw [hc] at ha
    exact va_alen hx hb hK hM.1 (i + 1) 1 ha (ty := .boolean) rfl rfl hdg kk
  · have hc : mcls dT j = dT 0 := by unfold mcls; rw [if_neg h]
    unfold mac at ha
    rw [hc] at ha
    exact va_alen hx hb hK hM.1 (i + 1) 0 ha (ty := .int) rfl rfl hdg kk
end MROWS
