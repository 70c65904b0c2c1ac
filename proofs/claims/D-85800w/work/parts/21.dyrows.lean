/-! DYROWS: rows over the two lists of steps -/
def dySet (d : ZDy) (a : Nat) (j v : Int) : ZDy := (d.1, d.2.1, d.2.2.1, fun b i => if b = a ∧ i = j then v else d.2.2.2 b i)
def dyClr1 (d : ZDy) : ZDy := ((d.1.1 + 1, d.1.2.1, []), d.2.1, d.2.2.1, d.2.2.2)
def dyClr2 (d : ZDy) : ZDy := (d.1, (d.2.1.1 + 1, d.2.1.2.1, []), d.2.2.1, d.2.2.2)
theorem stW_set {LP : List Nat} {p p' : Nat → Int → Int} {i a : Nat} (hn : LP.Nodup) (hi : LP[i]? = some a) (hp : ∀ b, b ≠ a → p' b = p b) : (stW LP p).set i (jSt a (p' a)) = stW LP p' := by
  unfold stW
  apply List.ext_getElem?
  intro k
  have hl : i < LP.length := (List.getElem?_eq_some_iff.mp hi).1
  by_cases hk : k = i
  · subst hk
    rw [List.getElem?_set_self (by rw [List.length_map]; exact hl), List.getElem?_map, hi]
    rfl
  · rw [List.getElem?_set_ne (Ne.symm hk), List.getElem?_map, List.getElem?_map]
    cases hb : LP[k]? with
    | none => rfl
    | some b =>
      have hba : b ≠ a := by
        rintro rfl
        obtain ⟨h1, h2⟩ := List.getElem?_eq_some_iff.mp hi
        obtain ⟨h3, h4⟩ := List.getElem?_eq_some_iff.mp hb
        have h5 := List.pairwise_iff_getElem.mp hn
        rcases Nat.lt_or_gt_of_ne hk with h | h
        · exact h5 k i h3 h1 h (h4.trans h2.symm)
        · exact h5 i k h1 h3 h (h2.trans h4.symm)
      show some (jSt b (p b)) = some (jSt b (p' b))
      rw [hp b hba]
section DYR
variable {Γ : ZG} {cc : ByteArray} {own : String} {fr lo : Nat} {k n : Nat} {σ : ZS} {pc : Nat} {lv : List (Nat × Value)} {st : List Value} {l : Launch} {D : va_G} {ds : Nat → ClassId} {ad : Nat → Nat} {nL mc0 ms0 : Nat} {δ : Nat × Nat} {d : ZDy} {a j index : Nat} {o1 o2 : Nat}
theorem jSt_get {a : Nat} {g : Int → Int} {j : Nat} (hj : j < 4) : ([.int (iz (g 0)), .int (iz (g 1)), .int (iz (g 2)), .int (iz (g 3))] : List Value)[j]? = some (.int (iz (g (j : Int)))) := by
  rcases (show j = 0 ∨ j = 1 ∨ j = 2 ∨ j = 3 by omega) with rfl | rfl | rfl | rfl <;> rfl
theorem z_stGet (X : ZX Γ cc own fr lo) (K : ZCap Γ l (ΘC D ds ad) nL mc0 ms0) (hw : (TX14 j).2.2.1 = "I") (hj : j < 4) (hl : Cond.fieldLinkNest own index RX14 (TX14 j).2.1 (TX14 j).2.2.1 "MatrixPress" ∈ lw_tbl) (dd : decode cc pc = .ok (.getfield index, 3)) (ha : a ∈ d.2.2.1) (h : Z Γ k n σ (dyW (ds 5) δ o1 o2 d) (pc + 3) lv (.int (iz (d.2.2.2 a (j : Int))) :: st)) : Z Γ k n σ (dyW (ds 5) δ o1 o2 d) pc lv (.ref a :: st) := by
  obtain ⟨i, hi⟩ := dyW_st (cA := ds 5) (δ := δ) (o1 := o1) (o2 := o2) (d := d) ha
  have h0 : (TX14 j).1 = RX14 := by rcases (show j = 0 ∨ j = 1 ∨ j = 2 ∨ j = 3 by omega) with rfl | rfl | rfl | rfl <;> rfl
  exact zx_getN (C := RX14) (T := TX14) (N0 := 4) (ref := RX14) (host := "MatrixPress") X K in_X14 i hi rfl j hj hl (fun x hx => by rw [h0] at hx; exact hx) (jSt_get (a := a) hj) dd h
theorem z_stPut {v : Int} (X : ZX Γ cc own fr lo) (K : ZCap Γ l (ΘC D ds ad) nL mc0 ms0) (hw : (TX14 j).2.2.1 = "I") (hj : j < 4) (hf : (TX14 j).2.2.2 = false) (hl : Cond.fieldLinkNest own index RX14 (TX14 j).2.1 (TX14 j).2.2.1 "MatrixPress" ∈ lw_tbl) (dd : decode cc pc = .ok (.putfield index, 3)) (ha : a ∈ d.2.2.1) (h : ∀ d1, d1 = dySet d a (j : Int) v → Z Γ k n σ (dyW (ds 5) δ o1 o2 d1) (pc + 3) lv st) : Z Γ k n σ (dyW (ds 5) δ o1 o2 d) pc lv (.int (iz v) :: .ref a :: st) := by
  refine zx_nd fun hnd => ?_
  obtain ⟨i, hi⟩ := List.getElem?_of_mem ha
  have h0 : (TX14 j).1 = RX14 := by rcases (show j = 0 ∨ j = 1 ∨ j = 2 ∨ j = 3 by omega) with rfl | rfl | rfl | rfl <;> rfl
  have hn : d.2.2.1.Nodup := by
    unfold dyW at hnd
    rw [List.map_append, List.map_append, stW_addr] at hnd
    exact (List.nodup_append.mp (List.nodup_append.mp hnd).2.1).2.1
  let m : Nat := (lsW (ds 5) δ o1 d.1).length + (lsW (ds 5) δ o2 d.2.1).length + i
  have hm : (dyW (ds 5) δ o1 o2 d)[m]? = some (jSt a (d.2.2.2 a)) := by
    unfold dyW
    rw [List.getElem?_append_right (by show _ ≤ _ + _ + i; omega), List.getElem?_append_right (by show _ ≤ _ + _ + i - _; omega)]
    rw [show m - (lsW (ds 5) δ o1 d.1).length - (lsW (ds 5) δ o2 d.2.1).length = i by show _ + _ + i - _ - _ = i; omega]
    unfold stW
    rw [List.getElem?_map, hi]
    rfl
  refine zx_putN (C := RX14) (T := TX14) (N0 := 4) (ref := RX14) (host := "MatrixPress") (ty := .int) X K in_X14 tyX14 tyX14_ok nmX14 m hm rfl j hj hl (fun x hx => by rw [h0] at hx; exact hx) hf (by rw [hw]; decide +kernel) rfl rfl hj dd ?_
  have h1 := h _ rfl
  have e1 : (a, (Sum.inr (12, ([.int (iz (d.2.2.2 a 0)), .int (iz (d.2.2.2 a 1)), .int (iz (d.2.2.2 a 2)), .int (iz (d.2.2.2 a 3))] : List Value).set j (.int (iz v))) : va_E)) = jSt a ((dySet d a (j : Int) v).2.2.2 a) := by
    unfold dySet
    rcases (show j = 0 ∨ j = 1 ∨ j = 2 ∨ j = 3 by omega) with rfl | rfl | rfl | rfl <;> simp
  rw [e1]
  have e2 : (dyW (ds 5) δ o1 o2 d).set m (jSt a ((dySet d a (j : Int) v).2.2.2 a)) = dyW (ds 5) δ o1 o2 (dySet d a (j : Int) v) := by
    unfold dyW
    rw [List.set_append_right _ _ (by show _ ≤ _ + _ + i; omega), List.set_append_right _ _ (by show _ ≤ _ + _ + i - _; omega)]
    rw [show m - (lsW (ds 5) δ o1 d.1).length - (lsW (ds 5) δ o2 d.2.1).length = i by show _ + _ + i - _ - _ = i; omega]
    rw [stW_set (p' := (dySet d a (j : Int) v).2.2.2) hn hi (fun b hb => by unfold dySet; funext i2; simp [hb])]
    rfl
  rw [e2]
  exact h1
/-- a list made empty -/
theorem z_yClr {Θ : ZTh} {xs R : va_W} {cA : ClassId} {o : Nat} {y : ZY} (X : ZX Γ cc own fr lo) (K : ZCap Γ l Θ nL mc0 ms0) (E : ZDe Γ cA δ) (ht : (zt_ty Θ)[5]? = some (cA, .object "java/lang/Object")) (hc6 : (zt_cl Θ)[6]? = some (RJ2, TJ2, 3)) (hy : yOK y) (hp : xs.Perm (lsW cA δ o y ++ R)) (hl1 : Cond.methodLink own index yJ2_clear ∈ lw_all) (hrm : zroom 2 60 fr lo = true) (hst : (st.map fun v => v.category).sum ≤ 8) (dd : decode cc pc = .ok (.invokevirtual index, 3)) (hcs : k ≤ mc0 ∧ n ≤ ms0) (h : Z Γ k n σ (lsW cA δ o (y.1 + 1, y.2.1, []) ++ R) (pc + 3) lv st) : Z Γ k n σ xs pc lv (.ref o :: st) := by
  have hw := lw_V hl1 q712 q713 q114 q714
  have hR : 1 + 1 ≤ fr ∧ 8 + (4 + 11) + 20 ≤ lo := zroom_of (nL := 4) (zroom_le hrm (by decide))
  obtain ⟨m, e, L⟩ := y
  cases e with
  | none =>
    have hL0 : L = [] := hy
    subst hL0
    refine zd_rVV (C := RJ2) (σR := σ) (ys := jLs o m δ.1 0 :: []) X K E (jl_cleard (Θ := Θ) hc6 o m) R hp (i0 := 0) rfl hc6 rfl hw ⟨rfl, by decide, by decide, rfl⟩ hR hcs hst dd rfl (fun σ' ys' hh => ?_)
    subst hh
    exact h
  | some q =>
    obtain ⟨el, cap⟩ := q
    obtain ⟨h1, h2, h3⟩ : L.length ≤ cap ∧ 10 ≤ cap ∧ cap ≤ 40000000 := hy
    refine zd_rVV (C := RJ2) (σR := σ) (ys := jLs o m el (L.length : Int) :: jAr cA el cap (fun j => L[j]?) :: []) X K E (jl_clear (Θ := Θ) ht hc6 o el cap L.length m (fun j => L[j]?) h1 (by omega)) R hp (i0 := 0) rfl hc6 rfl hw ⟨rfl, by decide, by decide, rfl⟩ hR hcs hst dd rfl (fun σ' ys' hh => ?_)
    subst hh
    have e1 : (fun j => if j < L.length then none else L[j]?) = fun j => ([] : List Nat)[j]? := by
      funext j
      by_cases h : j < L.length
      · simp [h]
      · rw [if_neg h, List.getElem?_eq_none (Nat.not_lt.mp h)]
        rfl
    show Z Γ k n σ (jLs o (m + 1) el 0 :: jAr cA el cap (fun j => if j < L.length then none else L[j]?) :: R) (pc + 3) lv st
    rw [e1]
    exact h
theorem z_dyClr1 (hl1 : Cond.methodLink own index yJ2_clear ∈ lw_all) (X : ZX Γ cc own fr lo) (K : ZCap Γ l (ΘC D ds ad) nL mc0 ms0) (E : ZDe Γ (ds 5) δ) (hrm : zroom 2 60 fr lo = true) (hst : (st.map fun v => v.category).sum ≤ 8) (dd : decode cc pc = .ok (.invokevirtual index, 3)) (hy : yOK d.1) (hcs : k ≤ mc0 ∧ n ≤ ms0) (h : ∀ d1, d1 = dyClr1 d → Z Γ k n σ (dyW (ds 5) δ (ad 75) (ad 76) d1) (pc + 3) lv st) : Z Γ k n σ (dyW (ds 5) δ (ad 75) (ad 76) d) pc lv (.ref (ad 75) :: st) :=
  z_yClr (R := lsW (ds 5) δ (ad 76) d.2.1 ++ stW d.2.2.1 d.2.2.2) X K E rfl rfl hy (List.Perm.refl _) hl1 hrm hst dd hcs (h _ rfl)
theorem z_dyClr2 (hl1 : Cond.methodLink own index yJ2_clear ∈ lw_all) (X : ZX Γ cc own fr lo) (K : ZCap Γ l (ΘC D ds ad) nL mc0 ms0) (E : ZDe Γ (ds 5) δ) (hrm : zroom 2 60 fr lo = true) (hst : (st.map fun v => v.category).sum ≤ 8) (dd : decode cc pc = .ok (.invokevirtual index, 3)) (hy : yOK d.2.1) (hcs : k ≤ mc0 ∧ n ≤ ms0) (h : ∀ d1, d1 = dyClr2 d → Z Γ k n σ (dyW (ds 5) δ (ad 75) (ad 76) d1) (pc + 3) lv st) : Z Γ k n σ (dyW (ds 5) δ (ad 75) (ad 76) d) pc lv (.ref (ad 76) :: st) := by
  have hp : ∀ (A B T : va_W), (A ++ (B ++ T)).Perm (B ++ (A ++ T)) := fun A B T => by
    rw [← List.append_assoc, ← List.append_assoc]
    exact List.Perm.append_right _ List.perm_append_comm
  refine z_yClr (R := lsW (ds 5) δ (ad 75) d.1 ++ stW d.2.2.1 d.2.2.2) X K E rfl rfl hy (hp _ _ _) hl1 hrm hst dd hcs ?_
  refine z_perm (ys := dyW (ds 5) δ (ad 75) (ad 76) (dyClr2 d)) [] (by rw [List.append_nil]; exact hp _ _ _) (h _ rfl)
theorem z_ySize {Θ : ZTh} {xs : va_W} {cA : ClassId} {o el : Nat} {m s : Int} (X : ZX Γ cc own fr lo) (K : ZCap Γ l Θ nL mc0 ms0) (hc6 : (zt_cl Θ)[6]? = some (RJ2, TJ2, 3)) (hm : jLs o m el s ∈ xs) (hl1 : Cond.methodLink own index yJ2_size ∈ lw_all) (hrm : zroom 2 60 fr lo = true) (hst : (st.map fun v => v.category).sum ≤ 8) (dd : decode cc pc = .ok (.invokevirtual index, 3)) (hcs : k ≤ mc0 ∧ n ≤ ms0) (h : Z Γ k n σ xs (pc + 3) lv (.int (iz s) :: st)) : Z Γ k n σ xs pc lv (.ref o :: st) :=
  zx_ro (C := RJ2) (i0 := 0) X K (al_size hc6 o [jLs o m el s] (iz m) (iz s) (.ref el) rfl) (fun q hq => by rw [List.mem_singleton.mp hq]; exact hm) rfl hc6 rfl (lw_V hl1 q592 q593 q114 q594) ⟨rfl, by decide, by decide, rfl⟩ (zroom_of (nL := 1) (zroom_le hrm (by decide))) hcs hst dd rfl h
theorem z_dySize1 (hl1 : Cond.methodLink own index yJ2_size ∈ lw_all) (X : ZX Γ cc own fr lo) (K : ZCap Γ l (ΘC D ds ad) nL mc0 ms0) (hrm : zroom 2 60 fr lo = true) (hst : (st.map fun v => v.category).sum ≤ 8) (dd : decode cc pc = .ok (.invokevirtual index, 3)) (hcs : k ≤ mc0 ∧ n ≤ ms0) (h : Z Γ k n σ (dyW (ds 5) δ (ad 75) (ad 76) d) (pc + 3) lv (.int (iz (d.1.2.2.length : Int)) :: st)) : Z Γ k n σ (dyW (ds 5) δ (ad 75) (ad 76) d) pc lv (.ref (ad 75) :: st) :=
  z_ySize (cA := ds 5) (m := d.1.1) (el := lsA δ d.1.2.1) X K rfl (by unfold dyW lsW; exact List.mem_append_left _ List.mem_cons_self) hl1 hrm hst dd hcs h
theorem z_dySize2 (hl1 : Cond.methodLink own index yJ2_size ∈ lw_all) (X : ZX Γ cc own fr lo) (K : ZCap Γ l (ΘC D ds ad) nL mc0 ms0) (hrm : zroom 2 60 fr lo = true) (hst : (st.map fun v => v.category).sum ≤ 8) (dd : decode cc pc = .ok (.invokevirtual index, 3)) (hcs : k ≤ mc0 ∧ n ≤ ms0) (h : Z Γ k n σ (dyW (ds 5) δ (ad 75) (ad 76) d) (pc + 3) lv (.int (iz (d.2.1.2.2.length : Int)) :: st)) : Z Γ k n σ (dyW (ds 5) δ (ad 75) (ad 76) d) pc lv (.ref (ad 76) :: st) :=
  z_ySize (cA := ds 5) (m := d.2.1.1) (el := lsA δ d.2.1.2.1) X K rfl (by unfold dyW lsW; exact List.mem_append_right _ (List.mem_append_left _ List.mem_cons_self)) hl1 hrm hst dd hcs h
end DYR
