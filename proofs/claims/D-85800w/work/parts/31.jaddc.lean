/-! an element of any class, where there is room -/
section JL3
variable {l : Launch} {Θ : ZTh} {cA : ClassId} {δ : Nat × Nat} {σ : ZS} {tl : va_W}
theorem jl_add_2C (ht : (zt_ty Θ)[5]? = some (cA, .object "java/lang/Object")) {ci : Nat} {r : vw_C} (hc : (zt_cl Θ)[ci]? = some r) (hca : Cond.castable r.1 "java/lang/Object" ∈ lw_tbl) (hc6 : (zt_cl Θ)[6]? = some (RJ2, TJ2, 3)) (o el cap v s : Nat) (m : Int) (f : Nat → Option Nat) (hs : s < cap) (hM : cap ≤ 100000000) (hv : ∃ vs, (v, .inr (ci, vs)) ∈ tl) : ZDV l (zR Θ) cA δ yJ2_add_2 cJ2_add_2 4 5 145 0 0 [.ref o, .ref v, .ref el, .int (iz (s : Int))] σ (jLs o m el (s : Int) :: jAr cA el cap f :: tl) (fun _ ys => ∃ a, ys = jLs o m a ((s : Int) + 1) :: jAr cA a cap (va_up f s (some v)) :: tl) := by
  refine ZDV.of (by decide) (Nat.le_of_ble_eq_true rfl) (fun Γ X K E R => ?_)
  obtain ⟨vs, hv⟩ := hv
  obtain ⟨j, hj⟩ := List.getElem?_of_mem hv
  refine z_iload_n X 3 dJ2_add_2_0 rfl ?_
  refine z_aload_n X 2 dJ2_add_2_1 rfl ?_
  refine zx_alen X K 1 5 rfl ht dJ2_add_2_2 ?_
  refine z_icmp_ne X 11 dJ2_add_2_3 (by decide) ⟨by omega, by omega⟩ (show InR (cap : Int) from ⟨by omega, by omega⟩) (fun _ => ?_) (fun q => absurd q (by show ¬ ((s : Int) = (cap : Int)); omega))
  refine z_aload_n X 2 dJ2_add_2_11 rfl ?_
  refine z_iload_n X 3 dJ2_add_2_12 rfl ?_
  refine z_aload_n X 1 dJ2_add_2_13 rfl ?_
  refine zx_astqO (E := "java/lang/Object") X K 1 (j + 2) 5 rfl ht hca (show (_ :: _ :: tl)[j + 2]? = _ from hj) hc (by omega) ⟨by omega, by omega⟩ dJ2_add_2_14 ?_
  rw [Int.toNat_natCast]
  refine z_aload_n X 0 dJ2_add_2_15 rfl ?_
  refine z_iload_n X 3 dJ2_add_2_16 rfl ?_
  refine z_iconst X 1 dJ2_add_2_17 ?_
  refine z_iadd X dJ2_add_2_18 ?_
  refine zx_put (C := RJ2) (T := TJ2) (N0 := 3) (ref := RJ2) (ty := .int) X K in_J2 tyJ2 tyJ2_ok nmJ2 0 rfl hc6 2 (by decide) q260 (fun _ h => h) rfl (by decide +kernel) rfl rfl (Nat.le_of_ble_eq_true rfl) dJ2_add_2_19 ?_
  exact R _ _ _ _ _ _ dJ2_add_2_22 (by omega) (by omega) ⟨_, rfl⟩
theorem jl_addC (ht : (zt_ty Θ)[5]? = some (cA, .object "java/lang/Object")) {ci : Nat} {r : vw_C} (hc : (zt_cl Θ)[ci]? = some r) (hca : Cond.castable r.1 "java/lang/Object" ∈ lw_tbl) (hc6 : (zt_cl Θ)[6]? = some (RJ2, TJ2, 3)) (o el cap v s : Nat) (m : Int) (f : Nat → Option Nat) (hs : s < cap) (hM : cap ≤ 100000000) (hv : ∃ vs, (v, .inr (ci, vs)) ∈ tl) : ZDI l (zR Θ) cA δ yJ2_add cJ2_add 2 .boolean 6 170 0 0 [.ref o, .ref v] σ (jLs o m el (s : Int) :: jAr cA el cap f :: tl) (fun x _ ys => x = 1 ∧ ∃ a, ys = jLs o (m + 1) a ((s : Int) + 1) :: jAr cA a cap (va_up f s (some v)) :: tl) := by
  refine ZDI.of (by decide) (Nat.le_of_ble_eq_true rfl) (fun Γ X K E R => ?_)
  refine z_aload_n X 0 dJ2_add_0 rfl ?_
  refine z_dup X dJ2_add_1 rfl ?_
  refine zx_get (C := RJ2) (T := TJ2) (N0 := 3) (ref := RJ2) X K in_J2 0 rfl hc6 0 (by decide) q262 (u_same (X.hts _ q263)) rfl dJ2_add_2 ?_
  refine z_iconst X 1 dJ2_add_5 ?_
  refine z_iadd X dJ2_add_6 ?_
  refine zx_put (C := RJ2) (T := TJ2) (N0 := 3) (ref := RJ2) (ty := .int) X K in_J2 tyJ2 tyJ2_ok nmJ2 0 rfl hc6 0 (by decide) q262 (u_same (X.hts _ q263)) rfl (by decide +kernel) rfl rfl (Nat.le_of_ble_eq_true rfl) dJ2_add_7 ?_
  refine z_aload_n X 0 dJ2_add_10 rfl ?_
  refine z_aload_n X 1 dJ2_add_11 rfl ?_
  refine z_aload_n X 0 dJ2_add_12 rfl ?_
  refine zx_get (C := RJ2) (T := TJ2) (N0 := 3) (ref := RJ2) X K in_J2 0 rfl hc6 1 (by decide) q259 (fun _ h => h) rfl dJ2_add_13 ?_
  refine z_aload_n X 0 dJ2_add_16 rfl ?_
  refine zx_get (C := RJ2) (T := TJ2) (N0 := 3) (ref := RJ2) X K in_J2 0 rfl hc6 2 (by decide) q260 (fun _ h => h) rfl dJ2_add_17 ?_
  refine zd_rVV (C := RJ2) (σR := σ) X K E (jl_add_2C (Θ := zR Θ) ht hc hca hc6 o el cap v s (m + 1) f hs hM hv) [] (by rw [List.append_nil]; exact List.Perm.refl _) (i0 := 0) rfl hc6 rfl (lw_V q374 q376 qs0 q114 q377) ⟨rfl, by decide, by decide, rfl⟩ ⟨Nat.le_of_ble_eq_true rfl, Nat.le_of_ble_eq_true rfl⟩ ⟨by omega, by omega⟩ (Nat.le_of_ble_eq_true rfl) dJ2_add_20 rfl (fun σ' ys' e => z_app0 ?_)
  refine z_iconst X 1 dJ2_add_23 ?_
  exact R _ _ _ _ _ _ _ dJ2_add_24 rfl (by omega) (by omega) ⟨rfl, e⟩
end JL3
