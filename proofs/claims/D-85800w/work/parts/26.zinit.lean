/-! ZINIT: rows for constructors over raw cells: arrays of numbers made, the new cell ahead -/
abbrev jNu (cA : ClassId) (a N : Nat) (f : Int → Int) : Nat × va_E := (a, .inl (cA, N, .inl fun j : Nat => iz (f (j : Int))))
section ZINIT
variable {Γ : ZG} {cc : ByteArray} {own : String} {fr lo : Nat} {k n : Nat} {σ : ZS} {xs : va_W} {pc : Nat} {lv : List (Nat × Value)} {st : List Value} {l : Launch} {Θ : ZTh} {nL mc0 ms0 : Nat} {t0 : Nat} {cA : ClassId} {N' : Nat} {m : Int}
theorem zx_newI (X : ZX Γ cc own fr lo) (K : ZCap Γ l Θ nL mc0 ms0) (ht : (zt_ty Θ)[t0]? = some (cA, .int)) (hm : m = (N' : Int)) (hN : N' ≤ 100000000) (hcs : k + 1 ≤ mc0 ∧ n + N' ≤ ms0) (d : decode cc pc = .ok (.newarray .int, 2)) (h : ∀ a : Nat, Z Γ (k + 1) (n + N') σ (jNu cA a N' (fun _ => 0) :: xs) (pc + 2) lv (.ref a :: st)) : Z Γ k n σ xs pc lv (.int (iz m) :: st) := by
  obtain ⟨rfl, rfl, -, hc1, hc2⟩ := K
  intro H locs ls hP hD hS hv
  have hi : InR m := ⟨by omega, by omega⟩
  refine va_newa X.hx X.hb (atype := .int) (X.hts _ q177) (ty := .int) rfl X.hK hP hD hS X.hA (N' := N') (a0 := (N', .inl fun _ : Nat => iz 0)) (fun cA => rfl) (fun q => absurd ((iz_lt0 hi).mp q) (by omega)) (by show (iz m).toInt.toNat = N'; rw [iz_toInt hi]; omega) (by show N' * 4 ≤ 536870912; omega) (by rw [hc1]; exact hcs.1) (by rw [hc2]; exact hcs.2) d (fun q cB H1 hK1 hP1 hD1 hS1 => ?_)
  have e : cB = cA := by
    have h6 := va_nm_int (hK1.2 (zt_ty (zg_T Γ)).length (cB, .int) (by simp)).2
    have h7 := va_nm_int (X.hK.2 t0 _ ht).2
    exact Option.some.inj (h6.symm.trans h7)
  subst e
  rw [zx_app] at hP1 hD1
  exact z_front (h q) H1 locs ls hP1 hD1 hS1 hv
theorem zx_newZ (X : ZX Γ cc own fr lo) (K : ZCap Γ l Θ nL mc0 ms0) (ht : (zt_ty Θ)[t0]? = some (cA, .boolean)) (hm : m = (N' : Int)) (hN : N' ≤ 100000000) (hcs : k + 1 ≤ mc0 ∧ n + N' ≤ ms0) (d : decode cc pc = .ok (.newarray .boolean, 2)) (h : ∀ a : Nat, Z Γ (k + 1) (n + N') σ (jNu cA a N' (fun _ => 0) :: xs) (pc + 2) lv (.ref a :: st)) : Z Γ k n σ xs pc lv (.int (iz m) :: st) := by
  obtain ⟨rfl, rfl, -, hc1, hc2⟩ := K
  intro H locs ls hP hD hS hv
  have hi : InR m := ⟨by omega, by omega⟩
  refine va_newa X.hx X.hb (atype := .boolean) (X.hts _ q178) (ty := .boolean) rfl X.hK hP hD hS X.hA (N' := N') (a0 := (N', .inl fun _ : Nat => iz 0)) (fun cA => rfl) (fun q => absurd ((iz_lt0 hi).mp q) (by omega)) (by show (iz m).toInt.toNat = N'; rw [iz_toInt hi]; omega) (by show N' * 1 ≤ 536870912; omega) (by rw [hc1]; exact hcs.1) (by rw [hc2]; exact hcs.2) d (fun q cB H1 hK1 hP1 hD1 hS1 => ?_)
  have e : cB = cA := by
    have h6 := va_nm_boolean (hK1.2 (zt_ty (zg_T Γ)).length (cB, .boolean) (by simp)).2
    have h7 := va_nm_boolean (X.hK.2 t0 _ ht).2
    exact Option.some.inj (h6.symm.trans h7)
  subst e
  rw [zx_app] at hP1 hD1
  exact z_front (h q) H1 locs ls hP1 hD1 hS1 hv
theorem zx_newB (X : ZX Γ cc own fr lo) (K : ZCap Γ l Θ nL mc0 ms0) (ht : (zt_ty Θ)[t0]? = some (cA, .byte)) (hm : m = (N' : Int)) (hN : N' ≤ 100000000) (hcs : k + 1 ≤ mc0 ∧ n + N' ≤ ms0) (d : decode cc pc = .ok (.newarray .byte, 2)) (h : ∀ a : Nat, Z Γ (k + 1) (n + N') σ (jNu cA a N' (fun _ => 0) :: xs) (pc + 2) lv (.ref a :: st)) : Z Γ k n σ xs pc lv (.int (iz m) :: st) := by
  obtain ⟨rfl, rfl, -, hc1, hc2⟩ := K
  intro H locs ls hP hD hS hv
  have hi : InR m := ⟨by omega, by omega⟩
  refine va_newa X.hx X.hb (atype := .byte) (X.hts _ q242) (ty := .byte) rfl X.hK hP hD hS X.hA (N' := N') (a0 := (N', .inl fun _ : Nat => iz 0)) (fun cA => rfl) (fun q => absurd ((iz_lt0 hi).mp q) (by omega)) (by show (iz m).toInt.toNat = N'; rw [iz_toInt hi]; omega) (by show N' * 1 ≤ 536870912; omega) (by rw [hc1]; exact hcs.1) (by rw [hc2]; exact hcs.2) d (fun q cB H1 hK1 hP1 hD1 hS1 => ?_)
  have e : cB = cA := by
    have h6 := va_nm_byte (hK1.2 (zt_ty (zg_T Γ)).length (cB, .byte) (by simp)).2
    have h7 := va_nm_byte (X.hK.2 t0 _ ht).2
    exact Option.some.inj (h6.symm.trans h7)
  subst e
  rw [zx_app] at hP1 hD1
  exact z_front (h q) H1 locs ls hP1 hD1 hS1 hv
end ZINIT
