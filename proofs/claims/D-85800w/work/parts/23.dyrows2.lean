/-! DYROWS 2: an element out of a list, a step more in the press's list -/
section DYR2
variable {Γ : ZG} {cc : ByteArray} {own : String} {fr lo : Nat} {k n : Nat} {σ : ZS} {pc : Nat} {lv : List (Nat × Value)} {st : List Value} {l : Launch} {D : va_G} {ds : Nat → ClassId} {ad : Nat → Nat} {nL mc0 ms0 : Nat} {δ : Nat × Nat} {d : ZDy} {a j index : Nat} {o1 o2 : Nat}
theorem z_yGet {Θ : ZTh} {xs : va_W} {cA : ClassId} {o : Nat} {y : ZY} {e : Int} (X : ZX Γ cc own fr lo) (K : ZCap Γ l Θ nL mc0 ms0) (ht : (zt_ty Θ)[5]? = some (cA, .object "java/lang/Object")) (hc6 : (zt_cl Θ)[6]? = some (RJ2, TJ2, 3)) (hy : yOK y) (hm : ∀ q ∈ lsW cA δ o y, q ∈ xs) (he : 0 ≤ e ∧ e < (y.2.2.length : Int)) (ha : y.2.2[e.toNat]? = some a) (hl1 : Cond.methodLink own index yJ2_get ∈ lw_all) (hrm : zroom 4 90 fr lo = true) (hst : (st.map fun v => v.category).sum ≤ 8) (dd : decode cc pc = .ok (.invokevirtual index, 3)) (hcs : k ≤ mc0 ∧ n ≤ ms0) (h : Z Γ k n σ xs (pc + 3) lv (.ref a :: st)) : Z Γ k n σ xs pc lv (.int (iz e) :: .ref o :: st) := by
  obtain ⟨m, o3, L⟩ := y
  cases o3 with
  | none =>
    have hL0 : L = [] := hy
    subst hL0
    have h1 := he.2
    have h0 := he.1
    exact absurd h1 (by show ¬ (e < ((0 : Nat) : Int)); omega)
  | some q =>
    obtain ⟨el, cap⟩ := q
    obtain ⟨h1, h2, h3⟩ : L.length ≤ cap ∧ 10 ≤ cap ∧ cap ≤ 40000000 := hy
    obtain ⟨he0, he1⟩ : 0 ≤ e ∧ e < (L.length : Int) := he
    have hie : InR e := ⟨by omega, by omega⟩
    have hil : InR (L.length : Int) := ⟨by omega, by omega⟩
    have hg := al_get (l := l) (D := zt_D Θ) (cl := zt_cl Θ) (tys := zt_ty Θ) hc6 o el (iz m) (iz (L.length : Int)) cA cap 5 (fun j => L[j]?) (lsW cA δ o (m, some (el, cap), L)) (iz e) ht rfl rfl (iz_vp_in he0 (by omega) (by omega)) (fun q => absurd ((iz_lt0 hie).mp q) (by omega)) ((iz_lt hie hil).mpr he1)
    rw [iz_clamp (n := cap) he0 (by omega) (by omega)] at hg
    have ha : L[e.toNat]? = some a := ha
    rw [ha] at hg
    exact zx_ro (C := RJ2) (i0 := 0) X K hg hm rfl hc6 rfl (lw_V hl1 q596 q597 q114 q598) ⟨rfl, by decide, by decide, rfl⟩ (zroom_of (nL := 2) (zroom_le hrm (by decide))) hcs hst dd rfl h
theorem z_dyGet1 {e : Int} (hl1 : Cond.methodLink own index yJ2_get ∈ lw_all) (X : ZX Γ cc own fr lo) (K : ZCap Γ l (ΘC D ds ad) nL mc0 ms0) (hrm : zroom 4 90 fr lo = true) (hst : (st.map fun v => v.category).sum ≤ 8) (dd : decode cc pc = .ok (.invokevirtual index, 3)) (hy : yOK d.1) (he : 0 ≤ e ∧ e < (d.1.2.2.length : Int)) (hcs : k ≤ mc0 ∧ n ≤ ms0) (h : ∀ a, d.1.2.2[e.toNat]? = some a → Z Γ k n σ (dyW (ds 5) δ (ad 75) (ad 76) d) (pc + 3) lv (.ref a :: st)) : Z Γ k n σ (dyW (ds 5) δ (ad 75) (ad 76) d) pc lv (.int (iz e) :: .ref (ad 75) :: st) := by
  have ha : d.1.2.2[e.toNat]? = some (d.1.2.2[e.toNat]'(by have := he.1; have := he.2; omega)) := List.getElem?_eq_getElem _
  exact z_yGet (y := d.1) (δ := δ) X K rfl rfl hy (fun q hq => List.mem_append_left _ hq) he ha hl1 hrm hst dd hcs (h _ ha)
theorem z_dyGet2 {e : Int} (hl1 : Cond.methodLink own index yJ2_get ∈ lw_all) (X : ZX Γ cc own fr lo) (K : ZCap Γ l (ΘC D ds ad) nL mc0 ms0) (hrm : zroom 4 90 fr lo = true) (hst : (st.map fun v => v.category).sum ≤ 8) (dd : decode cc pc = .ok (.invokevirtual index, 3)) (hy : yOK d.2.1) (he : 0 ≤ e ∧ e < (d.2.1.2.2.length : Int)) (hcs : k ≤ mc0 ∧ n ≤ ms0) (h : ∀ a, d.2.1.2.2[e.toNat]? = some a → Z Γ k n σ (dyW (ds 5) δ (ad 75) (ad 76) d) (pc + 3) lv (.ref a :: st)) : Z Γ k n σ (dyW (ds 5) δ (ad 75) (ad 76) d) pc lv (.int (iz e) :: .ref (ad 76) :: st) := by
  have ha : d.2.1.2.2[e.toNat]? = some (d.2.1.2.2[e.toNat]'(by have := he.1; have := he.2; omega)) := List.getElem?_eq_getElem _
  exact z_yGet (y := d.2.1) (δ := δ) X K rfl rfl hy (fun q hq => List.mem_append_right _ (List.mem_append_left _ hq)) he ha hl1 hrm hst dd hcs (h _ ha)
theorem z_stCast (hl1 : Cond.classLink own index RX14 ∈ lw_all) (X : ZX Γ cc own fr lo) (K : ZCap Γ l (ΘC D ds ad) nL mc0 ms0) (dd : decode cc pc = .ok (.checkcast index, 3)) (ha : a ∈ d.2.2.1) (h : Z Γ k n σ (dyW (ds 5) δ o1 o2 d) (pc + 3) lv (.ref a :: st)) : Z Γ k n σ (dyW (ds 5) δ o1 o2 d) pc lv (.ref a :: st) := by
  obtain ⟨i, hi⟩ := dyW_st (cA := ds 5) (δ := δ) (o1 := o1) (o2 := o2) (d := d) ha
  exact zx_castS (a := a) X K hl1 hi rfl dd h
theorem z_dyAdd2 (hl1 : Cond.methodLink own index yJ2_add ∈ lw_all) (X : ZX Γ cc own fr lo) (K : ZCap Γ l (ΘC D ds ad) nL mc0 ms0) (E : ZDe Γ (ds 5) δ) (hrm : zroom 7 191 fr lo = true) (hst : (st.map fun v => v.category).sum ≤ 8) (dd : decode cc pc = .ok (.invokevirtual index, 3)) (ha : a ∈ d.2.2.1) (hd : dyOK d ∧ yRoom d.2.1) (hcs : k + 1 ≤ mc0 ∧ n + yGrow d.2.1 ≤ ms0) (h : ∀ y', yAdd d.2.1 a y' → Z Γ (k + 1) (n + yGrow d.2.1) σ (dyW (ds 5) δ (ad 75) (ad 76) (d.1, y', d.2.2.1, d.2.2.2)) (pc + 3) lv (.int (iz 1) :: st)) : Z Γ k n σ (dyW (ds 5) δ (ad 75) (ad 76) d) pc lv (.ref a :: .ref (ad 76) :: st) := by
  have hp : ∀ (A B T : va_W), (A ++ (B ++ T)).Perm (B ++ (T ++ A)) := fun A B T => by
    rw [← List.append_assoc B T A]
    exact List.perm_append_comm
  refine z_yAdd (cA := ds 5) (o := ad 76) (y := d.2.1) (T := stW d.2.2.1 d.2.2.2) (R := lsW (ds 5) δ (ad 75) d.1) X K E rfl rfl rfl hd.1.2.1 hd.2 ⟨_, stW_mem ha⟩ (fun b hb => ⟨_, stW_mem (hd.1.2.2.2.1 b hb)⟩) (hp _ _ _) hl1 hrm hcs hst dd (fun y' hy' => ?_)
  refine z_perm (ys := dyW (ds 5) δ (ad 75) (ad 76) (d.1, y', d.2.2.1, d.2.2.2)) [] (by rw [List.append_nil]; exact (hp _ _ _).symm) (h y' hy')
end DYR2
