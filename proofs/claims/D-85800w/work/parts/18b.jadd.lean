/-! JLIST 2: grow, add, clear, isEmpty; a step's constructor -/
section JL2
variable {l : Launch} {Θ : ZTh} {cA : ClassId} {δ : Nat × Nat} {σ : ZS} {tl : va_W}
theorem jl_grow_2 (ht : (zt_ty Θ)[5]? = some (cA, .object "java/lang/Object")) (hc : (zt_cl Θ)[12]? = some (RX14, TX14, 4)) (hc6 : (zt_cl Θ)[6]? = some (RJ2, TJ2, 3)) (o el cap : Nat) (m s : Int) (f : Nat → Option Nat) (h2 : 2 ≤ cap) (hM : cap ≤ 50000000) (hel : ∀ i : Nat, i < cap → ∀ y : Nat, f i = some y → ∃ vs, (y, .inr (12, vs)) ∈ tl) : ZDR l (zR Θ) cA δ yJ2_grow_2 cJ2_grow_2 4 (.array (.object "java/lang/Object")) 3 90 1 (cap + cap / 2) [.ref o, .int (iz ((cap : Int) + 1))] σ (jLs o m el s :: jAr cA el cap f :: tl) (fun a _ ys => ys = jLs o m a s :: jAr cA a (cap + cap / 2) (va_cpy f (fun _ => none) 0 0 cap) :: jAr cA el cap f :: tl) := by
  refine ZDR.of (by decide) (Nat.le_of_ble_eq_true rfl) (Or.inr ⟨_, rfl⟩) (fun Γ X K E R => ?_)
  have hc1 : InR (cap : Int) := ⟨by omega, by omega⟩
  refine z_aload_n X 0 dJ2_grow_2_0 rfl ?_
  refine zx_get (C := RJ2) (T := TJ2) (N0 := 3) (ref := RJ2) X K in_J2 0 rfl hc6 1 (by decide) q259 (fun _ h => h) rfl dJ2_grow_2_1 ?_
  refine zx_alen X K 1 5 rfl ht dJ2_grow_2_4 ?_
  refine z_istore_nK X K dJ2_grow_2_5 rfl rfl ?_
  refine z_iload_n X 0 dJ2_grow_2_6 rfl ?_
  refine z_if_gt X 20 dJ2_grow_2_7 (by decide) hc1 (fun _ => ?_) (fun q => absurd q (by show ¬ ((cap : Int) ≤ 0); omega))
  refine z_iload_n X 0 dJ2_grow_2_20 rfl ?_
  refine z_iload_n X 2 dJ2_grow_2_21 rfl ?_
  refine z_iload_n X 0 dJ2_grow_2_22 rfl ?_
  refine z_isub X dJ2_grow_2_23 ?_
  refine z_iload_n X 0 dJ2_grow_2_24 rfl ?_
  refine z_iconst X 1 dJ2_grow_2_25 ?_
  refine z_ishrm X 1 (M := 2) (by decide) (by decide) rfl dJ2_grow_2_26 hc1 ?_
  have e1 : (cap : Int) + 1 - (cap : Int) = 1 := by omega
  have e2 : (cap : Int) + max 1 ((cap : Int) / 2) = ((cap + cap / 2 : Nat) : Int) := by omega
  have hN := jl_newLength (l := l) (Θ := zR Θ) (cA := cA) (δ := δ) (σ := σ) (jLs o m el s :: jAr cA el cap f :: tl) (a := (cap : Int)) (b := 1) (c := (cap : Int) / 2) ⟨by decide, by decide⟩ ⟨by omega, by omega⟩ (by omega) (by omega)
  show Z Γ 0 0 σ _ 27 _ (.int (iz ((cap : Int) / 2)) :: .int (iz ((cap : Int) + 1 - (cap : Int))) :: .int (iz (cap : Int)) :: [])
  rw [e1]
  refine zd_rSI (σR := σ) X K E hN [] (by rw [List.append_nil]) (lw_S q386 q387 q119 q388) ⟨by decide, by decide, rfl⟩ ⟨Nat.le_of_ble_eq_true rfl, Nat.le_of_ble_eq_true rfl⟩ ⟨by omega, by omega⟩ (Nat.le_of_ble_eq_true rfl) dJ2_grow_2_27 rfl (fun x σ' ys' e => z_app0 ?_)
  obtain ⟨ex, ey⟩ := e
  rw [e2] at ex
  subst ex ey
  refine z_istore_nK X K dJ2_grow_2_30 rfl rfl ?_
  refine z_aload_n X 2 dJ2_grow_2_31 rfl ?_
  refine z_aload_n X 2 dJ2_grow_2_32 rfl ?_
  refine zx_get (C := RJ2) (T := TJ2) (N0 := 3) (ref := RJ2) X K in_J2 0 rfl hc6 1 (by decide) q259 (fun _ h => h) rfl dJ2_grow_2_33 ?_
  refine z_iload_n X 0 dJ2_grow_2_36 rfl ?_
  refine zd_rSR (σR := σ) (ys := jAr cA el cap f :: tl) X K E (jl_copyOf (Θ := zR Θ) ht hc el cap (cap + cap / 2) f (by omega) (by omega) hel) [jLs o m el s] (List.perm_append_singleton _ _).symm (lw_S q396 q397 q121 q398) ⟨by decide, by decide, rfl⟩ ⟨Nat.le_of_ble_eq_true rfl, Nat.le_of_ble_eq_true rfl⟩ ⟨by omega, by omega⟩ (Nat.le_of_ble_eq_true rfl) dJ2_grow_2_37 rfl (fun a σ' ys' e => z_front ?_)
  subst e
  refine z_dup_x1 X dJ2_grow_2_40 rfl rfl ?_
  refine zx_put (C := RJ2) (T := TJ2) (N0 := 3) (ref := RJ2) (ty := .array (.object "java/lang/Object")) X K in_J2 tyJ2 tyJ2_ok nmJ2 0 rfl hc6 1 (by decide) q259 (fun _ h => h) rfl (by decide +kernel) rfl rfl (Nat.le_of_ble_eq_true rfl) dJ2_grow_2_41 ?_
  exact R _ _ _ _ _ _ _ dJ2_grow_2_44 (by omega) (by omega) rfl
theorem jl_grow_2d (ht : (zt_ty Θ)[5]? = some (cA, .object "java/lang/Object")) (hc6 : (zt_cl Θ)[6]? = some (RJ2, TJ2, 3)) (o : Nat) (m s : Int) : ZDR l (zR Θ) cA δ yJ2_grow_2 cJ2_grow_2 4 (.array (.object "java/lang/Object")) 3 90 1 10 [.ref o, .int (iz 1)] σ (jLs o m δ.1 s :: tl) (fun a _ ys => ys = jLs o m a s :: jAr cA a 10 (fun _ => none) :: tl) := by
  refine ZDR.of (by decide) (Nat.le_of_ble_eq_true rfl) (Or.inr ⟨_, rfl⟩) (fun Γ X K E R => ?_)
  refine z_aload_n X 0 dJ2_grow_2_0 rfl ?_
  refine zx_get (C := RJ2) (T := TJ2) (N0 := 3) (ref := RJ2) X K in_J2 0 rfl hc6 1 (by decide) q259 (fun _ h => h) rfl dJ2_grow_2_1 ?_
  refine z_alenD X K E 5 ht dJ2_grow_2_4 ?_
  refine z_istore_nK X K dJ2_grow_2_5 rfl rfl ?_
  refine z_iload_n X 0 dJ2_grow_2_6 rfl ?_
  refine z_if_gt X 20 dJ2_grow_2_7 (by decide) InR0 (fun q => absurd q (by decide)) (fun _ => ?_)
  refine z_aload_n X 1 dJ2_grow_2_10 rfl ?_
  refine zx_get (C := RJ2) (T := TJ2) (N0 := 3) (ref := RJ2) X K in_J2 0 rfl hc6 1 (by decide) q259 (fun _ h => h) rfl dJ2_grow_2_11 ?_
  refine z_getDE X E q274 dJ2_grow_2_14 ?_
  refine z_acmp_sameE X 45 dJ2_grow_2_17 (by decide) ?_
  refine z_aload_n X 1 dJ2_grow_2_45 rfl ?_
  refine z_bipush X 10 dJ2_grow_2_46 (by decide) ?_
  refine z_iload_n X 2 dJ2_grow_2_48 rfl ?_
  refine z_mmax X q430 q390 q120 q391 rfl (Nat.le_of_ble_eq_true rfl) ⟨Nat.zero_le _, Nat.zero_le _⟩ ⟨by decide, by decide⟩ ⟨by decide, by decide⟩ dJ2_grow_2_49 ?_
  refine zx_newq X K q255 X.hNw.2.2 ht (N' := 10) (by decide) (by omega) ⟨Nat.le_refl _, Nat.le_refl _⟩ dJ2_grow_2_52 (fun a => z_front ?_)
  refine z_perm (ys := jLs o m δ.1 s :: jAr cA a 10 (fun _ => none) :: tl) [] (by rw [List.append_nil]; exact List.Perm.swap _ _ _) ?_
  refine z_dup_x1 X dJ2_grow_2_55 rfl rfl ?_
  refine zx_put (C := RJ2) (T := TJ2) (N0 := 3) (ref := RJ2) (ty := .array (.object "java/lang/Object")) X K in_J2 tyJ2 tyJ2_ok nmJ2 0 rfl hc6 1 (by decide) q259 (fun _ h => h) rfl (by decide +kernel) rfl rfl (Nat.le_of_ble_eq_true rfl) dJ2_grow_2_56 ?_
  exact R _ _ _ _ _ _ _ dJ2_grow_2_59 (Nat.le_refl _) (Nat.le_refl _) rfl
theorem jl_grow (ht : (zt_ty Θ)[5]? = some (cA, .object "java/lang/Object")) (hc : (zt_cl Θ)[12]? = some (RX14, TX14, 4)) (hc6 : (zt_cl Θ)[6]? = some (RJ2, TJ2, 3)) (o el cap : Nat) (m : Int) (f : Nat → Option Nat) (h2 : 2 ≤ cap) (hM : cap ≤ 50000000) (hel : ∀ i : Nat, i < cap → ∀ y : Nat, f i = some y → ∃ vs, (y, .inr (12, vs)) ∈ tl) : ZDR l (zR Θ) cA δ yJ2_grow cJ2_grow 1 (.array (.object "java/lang/Object")) 4 120 1 (cap + cap / 2) [.ref o] σ (jLs o m el (cap : Int) :: jAr cA el cap f :: tl) (fun a _ ys => ys = jLs o m a (cap : Int) :: jAr cA a (cap + cap / 2) (va_cpy f (fun _ => none) 0 0 cap) :: jAr cA el cap f :: tl) := by
  refine ZDR.of (by decide) (Nat.le_of_ble_eq_true rfl) (Or.inr ⟨_, rfl⟩) (fun Γ X K E R => ?_)
  refine z_aload_n X 0 dJ2_grow_0 rfl ?_
  refine z_aload_n X 0 dJ2_grow_1 rfl ?_
  refine zx_get (C := RJ2) (T := TJ2) (N0 := 3) (ref := RJ2) X K in_J2 0 rfl hc6 2 (by decide) q260 (fun _ h => h) rfl dJ2_grow_2 ?_
  refine z_iconst X 1 dJ2_grow_5 ?_
  refine z_iadd X dJ2_grow_6 ?_
  refine zd_rVR (C := RJ2) (σR := σ) X K E (jl_grow_2 (Θ := zR Θ) ht hc hc6 o el cap m (cap : Int) f h2 hM hel) [] (by rw [List.append_nil]) (i0 := 0) rfl hc6 rfl (lw_V q382 q384 qs2 q114 q385) ⟨rfl, by decide, by decide, rfl⟩ ⟨Nat.le_of_ble_eq_true rfl, Nat.le_of_ble_eq_true rfl⟩ ⟨by omega, by omega⟩ (Nat.le_of_ble_eq_true rfl) dJ2_grow_7 rfl (fun a σ' ys' e => z_app0 ?_)
  exact R _ _ _ _ _ _ _ dJ2_grow_10 (by omega) (by omega) e
theorem jl_growd (ht : (zt_ty Θ)[5]? = some (cA, .object "java/lang/Object")) (hc6 : (zt_cl Θ)[6]? = some (RJ2, TJ2, 3)) (o : Nat) (m : Int) : ZDR l (zR Θ) cA δ yJ2_grow cJ2_grow 1 (.array (.object "java/lang/Object")) 4 120 1 10 [.ref o] σ (jLs o m δ.1 0 :: tl) (fun a _ ys => ys = jLs o m a 0 :: jAr cA a 10 (fun _ => none) :: tl) := by
  refine ZDR.of (by decide) (Nat.le_of_ble_eq_true rfl) (Or.inr ⟨_, rfl⟩) (fun Γ X K E R => ?_)
  refine z_aload_n X 0 dJ2_grow_0 rfl ?_
  refine z_aload_n X 0 dJ2_grow_1 rfl ?_
  refine zx_get (C := RJ2) (T := TJ2) (N0 := 3) (ref := RJ2) X K in_J2 0 rfl hc6 2 (by decide) q260 (fun _ h => h) rfl dJ2_grow_2 ?_
  refine z_iconst X 1 dJ2_grow_5 ?_
  refine z_iadd X dJ2_grow_6 ?_
  refine zd_rVR (C := RJ2) (σR := σ) X K E (jl_grow_2d (Θ := zR Θ) ht hc6 o m 0) [] (by rw [List.append_nil]) (i0 := 0) rfl hc6 rfl (lw_V q382 q384 qs2 q114 q385) ⟨rfl, by decide, by decide, rfl⟩ ⟨Nat.le_of_ble_eq_true rfl, Nat.le_of_ble_eq_true rfl⟩ ⟨by omega, by omega⟩ (Nat.le_of_ble_eq_true rfl) dJ2_grow_7 rfl (fun a σ' ys' e => z_app0 ?_)
  exact R _ _ _ _ _ _ _ dJ2_grow_10 (by omega) (by omega) e
theorem jl_add_2 (ht : (zt_ty Θ)[5]? = some (cA, .object "java/lang/Object")) (hc : (zt_cl Θ)[12]? = some (RX14, TX14, 4)) (hc6 : (zt_cl Θ)[6]? = some (RJ2, TJ2, 3)) (o el cap v s : Nat) (m : Int) (f : Nat → Option Nat) (hs : s < cap) (hM : cap ≤ 100000000) (hv : ∃ vs, (v, .inr (12, vs)) ∈ tl) : ZDV l (zR Θ) cA δ yJ2_add_2 cJ2_add_2 4 5 145 0 0 [.ref o, .ref v, .ref el, .int (iz (s : Int))] σ (jLs o m el (s : Int) :: jAr cA el cap f :: tl) (fun _ ys => ∃ a, ys = jLs o m a ((s : Int) + 1) :: jAr cA a cap (va_up f s (some v)) :: tl) := by
  refine ZDV.of (by decide) (Nat.le_of_ble_eq_true rfl) (fun Γ X K E R => ?_)
  obtain ⟨vs, hv⟩ := hv
  obtain ⟨j, hj⟩ := List.getElem?_of_mem hv
  refine z_iload_n X 3 dJ2_add_2_0 rfl ?_
  refine z_aload_n X 2 dJ2_add_2_1 rfl ?_
  refine zx_alen X K 1 5 rfl ht dJ2_add_2_2 ?_
  refine z_icmp_ne X 11 dJ2_add_2_3 (by decide) ⟨by omega, by omega⟩ (show InR (cap : Int) from ⟨by omega, by omega⟩) (fun _ => ?_) (fun q => absurd q (by show ¬ ((s : Int) = (cap : Int)); omega))
  refine z_aload_n X 2 dJ2_add_2_11 rfl ?_
  refine z_iload_n X 3 dJ2_add_2_12 rfl ?_
  refine z_aload_n X 1 dJ2_add_2_13 rfl ?_
  refine zx_astqO (E := "java/lang/Object") X K 1 (j + 2) 5 rfl ht q1756 (show (_ :: _ :: tl)[j + 2]? = _ from hj) hc (by omega) ⟨by omega, by omega⟩ dJ2_add_2_14 ?_
  rw [Int.toNat_natCast]
  refine z_aload_n X 0 dJ2_add_2_15 rfl ?_
  refine z_iload_n X 3 dJ2_add_2_16 rfl ?_
  refine z_iconst X 1 dJ2_add_2_17 ?_
  refine z_iadd X dJ2_add_2_18 ?_
  refine zx_put (C := RJ2) (T := TJ2) (N0 := 3) (ref := RJ2) (ty := .int) X K in_J2 tyJ2 tyJ2_ok nmJ2 0 rfl hc6 2 (by decide) q260 (fun _ h => h) rfl (by decide +kernel) rfl rfl (Nat.le_of_ble_eq_true rfl) dJ2_add_2_19 ?_
  exact R _ _ _ _ _ _ dJ2_add_2_22 (by omega) (by omega) ⟨_, rfl⟩
theorem jl_add_2g (ht : (zt_ty Θ)[5]? = some (cA, .object "java/lang/Object")) (hc : (zt_cl Θ)[12]? = some (RX14, TX14, 4)) (hc6 : (zt_cl Θ)[6]? = some (RJ2, TJ2, 3)) (o el cap v : Nat) (m : Int) (f : Nat → Option Nat) (h2 : 2 ≤ cap) (hM : cap ≤ 50000000) (hel : ∀ i : Nat, i < cap → ∀ y : Nat, f i = some y → ∃ vs, (y, .inr (12, vs)) ∈ tl) (hv : ∃ vs, (v, .inr (12, vs)) ∈ tl) : ZDV l (zR Θ) cA δ yJ2_add_2 cJ2_add_2 4 5 145 1 (cap + cap / 2) [.ref o, .ref v, .ref el, .int (iz (cap : Int))] σ (jLs o m el (cap : Int) :: jAr cA el cap f :: tl) (fun _ ys => ∃ a, ys = jLs o m a ((cap : Int) + 1) :: jAr cA a (cap + cap / 2) (va_up (va_cpy f (fun _ => none) 0 0 cap) cap (some v)) :: tl) := by
  refine ZDV.of (by decide) (Nat.le_of_ble_eq_true rfl) (fun Γ X K E R => ?_)
  obtain ⟨vs, hv⟩ := hv
  obtain ⟨j, hj⟩ := List.getElem?_of_mem hv
  refine z_iload_n X 3 dJ2_add_2_0 rfl ?_
  refine z_aload_n X 2 dJ2_add_2_1 rfl ?_
  have hc1 : InR (cap : Int) := ⟨by omega, by omega⟩
  refine zx_alen X K 1 5 rfl ht dJ2_add_2_2 ?_
  refine z_icmp_ne X 11 dJ2_add_2_3 (by decide) hc1 hc1 (fun q => absurd rfl q) (fun _ => ?_)
  refine z_aload_n X 0 dJ2_add_2_6 rfl ?_
  refine zd_rVR (C := RJ2) (σR := σ) X K E (jl_grow (Θ := zR Θ) ht hc hc6 o el cap m f h2 hM hel) [] (by rw [List.append_nil]) (i0 := 0) rfl hc6 rfl (lw_V q378 q380 qs1 q114 q381) ⟨rfl, by decide, by decide, rfl⟩ ⟨Nat.le_of_ble_eq_true rfl, Nat.le_of_ble_eq_true rfl⟩ ⟨by omega, by omega⟩ (Nat.le_of_ble_eq_true rfl) dJ2_add_2_7 rfl (fun a σ' ys' e => z_app0 ?_)
  subst e
  refine z_perm (ys := jLs o m a (cap : Int) :: jAr cA a (cap + cap / 2) (va_cpy f (fun _ => none) 0 0 cap) :: tl) [jAr cA el cap f] (List.Perm.cons _ (List.Perm.cons _ (List.perm_append_singleton _ _).symm)) ?_
  refine z_astore_nK X K dJ2_add_2_10 rfl rfl ?_
  refine z_aload_n X 0 dJ2_add_2_11 rfl ?_
  refine z_iload_n X 3 dJ2_add_2_12 rfl ?_
  refine z_aload_n X 2 dJ2_add_2_13 rfl ?_
  refine zx_astqO (E := "java/lang/Object") X K 1 (j + 2) 5 rfl ht q1756 (show (_ :: _ :: tl)[j + 2]? = _ from hj) hc (by omega) ⟨by omega, by omega⟩ dJ2_add_2_14 ?_
  rw [Int.toNat_natCast]
  refine z_aload_n X 1 dJ2_add_2_15 rfl ?_
  refine z_iload_n X 3 dJ2_add_2_16 rfl ?_
  refine z_iconst X 1 dJ2_add_2_17 ?_
  refine z_iadd X dJ2_add_2_18 ?_
  refine zx_put (C := RJ2) (T := TJ2) (N0 := 3) (ref := RJ2) (ty := .int) X K in_J2 tyJ2 tyJ2_ok nmJ2 0 rfl hc6 2 (by decide) q260 (fun _ h => h) rfl (by decide +kernel) rfl rfl (Nat.le_of_ble_eq_true rfl) dJ2_add_2_19 ?_
  exact R _ _ _ _ _ _ dJ2_add_2_22 (by omega) (by omega) ⟨_, rfl⟩
theorem jl_add_2d (ht : (zt_ty Θ)[5]? = some (cA, .object "java/lang/Object")) (hc : (zt_cl Θ)[12]? = some (RX14, TX14, 4)) (hc6 : (zt_cl Θ)[6]? = some (RJ2, TJ2, 3)) (o v : Nat) (m : Int) (hv : ∃ vs, (v, .inr (12, vs)) ∈ tl) : ZDV l (zR Θ) cA δ yJ2_add_2 cJ2_add_2 4 5 145 1 10 [.ref o, .ref v, .ref δ.1, .int (iz 0)] σ (jLs o m δ.1 0 :: tl) (fun _ ys => ∃ a, ys = jLs o m a 1 :: jAr cA a 10 (va_up (fun _ => none) 0 (some v)) :: tl) := by
  refine ZDV.of (by decide) (Nat.le_of_ble_eq_true rfl) (fun Γ X K E R => ?_)
  obtain ⟨vs, hv⟩ := hv
  obtain ⟨j, hj⟩ := List.getElem?_of_mem hv
  refine z_iload_n X 3 dJ2_add_2_0 rfl ?_
  refine z_aload_n X 2 dJ2_add_2_1 rfl ?_
  refine z_alenD X K E 5 ht dJ2_add_2_2 ?_
  refine z_icmp_ne X 11 dJ2_add_2_3 (by decide) InR0 InR0 (fun q => absurd rfl q) (fun _ => ?_)
  refine z_aload_n X 0 dJ2_add_2_6 rfl ?_
  refine zd_rVR (C := RJ2) (σR := σ) X K E (jl_growd (Θ := zR Θ) ht hc6 o m) [] (by rw [List.append_nil]) (i0 := 0) rfl hc6 rfl (lw_V q378 q380 qs1 q114 q381) ⟨rfl, by decide, by decide, rfl⟩ ⟨Nat.le_of_ble_eq_true rfl, Nat.le_of_ble_eq_true rfl⟩ ⟨by omega, by omega⟩ (Nat.le_of_ble_eq_true rfl) dJ2_add_2_7 rfl (fun a σ' ys' e => z_app0 ?_)
  subst e
  refine z_astore_nK X K dJ2_add_2_10 rfl rfl ?_
  refine z_aload_n X 0 dJ2_add_2_11 rfl ?_
  refine z_iload_n X 3 dJ2_add_2_12 rfl ?_
  refine z_aload_n X 2 dJ2_add_2_13 rfl ?_
  refine zx_astqO (E := "java/lang/Object") X K 1 (j + 2) 5 rfl ht q1756 (show (_ :: _ :: tl)[j + 2]? = _ from hj) hc (by omega) ⟨by omega, by omega⟩ dJ2_add_2_14 ?_
  refine z_aload_n X 1 dJ2_add_2_15 rfl ?_
  refine z_iload_n X 3 dJ2_add_2_16 rfl ?_
  refine z_iconst X 1 dJ2_add_2_17 ?_
  refine z_iadd X dJ2_add_2_18 ?_
  refine zx_put (C := RJ2) (T := TJ2) (N0 := 3) (ref := RJ2) (ty := .int) X K in_J2 tyJ2 tyJ2_ok nmJ2 0 rfl hc6 2 (by decide) q260 (fun _ h => h) rfl (by decide +kernel) rfl rfl (Nat.le_of_ble_eq_true rfl) dJ2_add_2_19 ?_
  exact R _ _ _ _ _ _ dJ2_add_2_22 (by omega) (by omega) ⟨_, rfl⟩
theorem jl_add (ht : (zt_ty Θ)[5]? = some (cA, .object "java/lang/Object")) (hc : (zt_cl Θ)[12]? = some (RX14, TX14, 4)) (hc6 : (zt_cl Θ)[6]? = some (RJ2, TJ2, 3)) (o el cap v s : Nat) (m : Int) (f : Nat → Option Nat) (hs : s < cap) (hM : cap ≤ 100000000) (hv : ∃ vs, (v, .inr (12, vs)) ∈ tl) : ZDI l (zR Θ) cA δ yJ2_add cJ2_add 2 .boolean 6 170 0 0 [.ref o, .ref v] σ (jLs o m el (s : Int) :: jAr cA el cap f :: tl) (fun x _ ys => x = 1 ∧ ∃ a, ys = jLs o (m + 1) a ((s : Int) + 1) :: jAr cA a cap (va_up f s (some v)) :: tl) := by
  refine ZDI.of (by decide) (Nat.le_of_ble_eq_true rfl) (fun Γ X K E R => ?_)
  refine z_aload_n X 0 dJ2_add_0 rfl ?_
  refine z_dup X dJ2_add_1 rfl ?_
  refine zx_get (C := RJ2) (T := TJ2) (N0 := 3) (ref := RJ2) X K in_J2 0 rfl hc6 0 (by decide) q262 (u_same (X.hts _ q263)) rfl dJ2_add_2 ?_
  refine z_iconst X 1 dJ2_add_5 ?_
  refine z_iadd X dJ2_add_6 ?_
  refine zx_put (C := RJ2) (T := TJ2) (N0 := 3) (ref := RJ2) (ty := .int) X K in_J2 tyJ2 tyJ2_ok nmJ2 0 rfl hc6 0 (by decide) q262 (u_same (X.hts _ q263)) rfl (by decide +kernel) rfl rfl (Nat.le_of_ble_eq_true rfl) dJ2_add_7 ?_
  refine z_aload_n X 0 dJ2_add_10 rfl ?_
  refine z_aload_n X 1 dJ2_add_11 rfl ?_
  refine z_aload_n X 0 dJ2_add_12 rfl ?_
  refine zx_get (C := RJ2) (T := TJ2) (N0 := 3) (ref := RJ2) X K in_J2 0 rfl hc6 1 (by decide) q259 (fun _ h => h) rfl dJ2_add_13 ?_
  refine z_aload_n X 0 dJ2_add_16 rfl ?_
  refine zx_get (C := RJ2) (T := TJ2) (N0 := 3) (ref := RJ2) X K in_J2 0 rfl hc6 2 (by decide) q260 (fun _ h => h) rfl dJ2_add_17 ?_
  refine zd_rVV (C := RJ2) (σR := σ) X K E (jl_add_2 (Θ := zR Θ) ht hc hc6 o el cap v s (m + 1) f hs hM hv) [] (by rw [List.append_nil]; exact List.Perm.refl _) (i0 := 0) rfl hc6 rfl (lw_V q374 q376 qs0 q114 q377) ⟨rfl, by decide, by decide, rfl⟩ ⟨Nat.le_of_ble_eq_true rfl, Nat.le_of_ble_eq_true rfl⟩ ⟨by omega, by omega⟩ (Nat.le_of_ble_eq_true rfl) dJ2_add_20 rfl (fun σ' ys' e => z_app0 ?_)
  refine z_iconst X 1 dJ2_add_23 ?_
  exact R _ _ _ _ _ _ _ dJ2_add_24 rfl (by omega) (by omega) ⟨rfl, e⟩
theorem jl_addg (ht : (zt_ty Θ)[5]? = some (cA, .object "java/lang/Object")) (hc : (zt_cl Θ)[12]? = some (RX14, TX14, 4)) (hc6 : (zt_cl Θ)[6]? = some (RJ2, TJ2, 3)) (o el cap v : Nat) (m : Int) (f : Nat → Option Nat) (h2 : 2 ≤ cap) (hM : cap ≤ 50000000) (hel : ∀ i : Nat, i < cap → ∀ y : Nat, f i = some y → ∃ vs, (y, .inr (12, vs)) ∈ tl) (hv : ∃ vs, (v, .inr (12, vs)) ∈ tl) : ZDI l (zR Θ) cA δ yJ2_add cJ2_add 2 .boolean 6 170 1 (cap + cap / 2) [.ref o, .ref v] σ (jLs o m el (cap : Int) :: jAr cA el cap f :: tl) (fun x _ ys => x = 1 ∧ ∃ a, ys = jLs o (m + 1) a ((cap : Int) + 1) :: jAr cA a (cap + cap / 2) (va_up (va_cpy f (fun _ => none) 0 0 cap) cap (some v)) :: tl) := by
  refine ZDI.of (by decide) (Nat.le_of_ble_eq_true rfl) (fun Γ X K E R => ?_)
  refine z_aload_n X 0 dJ2_add_0 rfl ?_
  refine z_dup X dJ2_add_1 rfl ?_
  refine zx_get (C := RJ2) (T := TJ2) (N0 := 3) (ref := RJ2) X K in_J2 0 rfl hc6 0 (by decide) q262 (u_same (X.hts _ q263)) rfl dJ2_add_2 ?_
  refine z_iconst X 1 dJ2_add_5 ?_
  refine z_iadd X dJ2_add_6 ?_
  refine zx_put (C := RJ2) (T := TJ2) (N0 := 3) (ref := RJ2) (ty := .int) X K in_J2 tyJ2 tyJ2_ok nmJ2 0 rfl hc6 0 (by decide) q262 (u_same (X.hts _ q263)) rfl (by decide +kernel) rfl rfl (Nat.le_of_ble_eq_true rfl) dJ2_add_7 ?_
  refine z_aload_n X 0 dJ2_add_10 rfl ?_
  refine z_aload_n X 1 dJ2_add_11 rfl ?_
  refine z_aload_n X 0 dJ2_add_12 rfl ?_
  refine zx_get (C := RJ2) (T := TJ2) (N0 := 3) (ref := RJ2) X K in_J2 0 rfl hc6 1 (by decide) q259 (fun _ h => h) rfl dJ2_add_13 ?_
  refine z_aload_n X 0 dJ2_add_16 rfl ?_
  refine zx_get (C := RJ2) (T := TJ2) (N0 := 3) (ref := RJ2) X K in_J2 0 rfl hc6 2 (by decide) q260 (fun _ h => h) rfl dJ2_add_17 ?_
  refine zd_rVV (C := RJ2) (σR := σ) X K E (jl_add_2g (Θ := zR Θ) ht hc hc6 o el cap v (m + 1) f h2 hM hel hv) [] (by rw [List.append_nil]; exact List.Perm.refl _) (i0 := 0) rfl hc6 rfl (lw_V q374 q376 qs0 q114 q377) ⟨rfl, by decide, by decide, rfl⟩ ⟨Nat.le_of_ble_eq_true rfl, Nat.le_of_ble_eq_true rfl⟩ ⟨by omega, by omega⟩ (Nat.le_of_ble_eq_true rfl) dJ2_add_20 rfl (fun σ' ys' e => z_app0 ?_)
  refine z_iconst X 1 dJ2_add_23 ?_
  exact R _ _ _ _ _ _ _ dJ2_add_24 rfl (by omega) (by omega) ⟨rfl, e⟩
theorem jl_addd (ht : (zt_ty Θ)[5]? = some (cA, .object "java/lang/Object")) (hc : (zt_cl Θ)[12]? = some (RX14, TX14, 4)) (hc6 : (zt_cl Θ)[6]? = some (RJ2, TJ2, 3)) (o v : Nat) (m : Int) (hv : ∃ vs, (v, .inr (12, vs)) ∈ tl) : ZDI l (zR Θ) cA δ yJ2_add cJ2_add 2 .boolean 6 170 1 10 [.ref o, .ref v] σ (jLs o m δ.1 0 :: tl) (fun x _ ys => x = 1 ∧ ∃ a, ys = jLs o (m + 1) a 1 :: jAr cA a 10 (va_up (fun _ => none) 0 (some v)) :: tl) := by
  refine ZDI.of (by decide) (Nat.le_of_ble_eq_true rfl) (fun Γ X K E R => ?_)
  refine z_aload_n X 0 dJ2_add_0 rfl ?_
  refine z_dup X dJ2_add_1 rfl ?_
  refine zx_get (C := RJ2) (T := TJ2) (N0 := 3) (ref := RJ2) X K in_J2 0 rfl hc6 0 (by decide) q262 (u_same (X.hts _ q263)) rfl dJ2_add_2 ?_
  refine z_iconst X 1 dJ2_add_5 ?_
  refine z_iadd X dJ2_add_6 ?_
  refine zx_put (C := RJ2) (T := TJ2) (N0 := 3) (ref := RJ2) (ty := .int) X K in_J2 tyJ2 tyJ2_ok nmJ2 0 rfl hc6 0 (by decide) q262 (u_same (X.hts _ q263)) rfl (by decide +kernel) rfl rfl (Nat.le_of_ble_eq_true rfl) dJ2_add_7 ?_
  refine z_aload_n X 0 dJ2_add_10 rfl ?_
  refine z_aload_n X 1 dJ2_add_11 rfl ?_
  refine z_aload_n X 0 dJ2_add_12 rfl ?_
  refine zx_get (C := RJ2) (T := TJ2) (N0 := 3) (ref := RJ2) X K in_J2 0 rfl hc6 1 (by decide) q259 (fun _ h => h) rfl dJ2_add_13 ?_
  refine z_aload_n X 0 dJ2_add_16 rfl ?_
  refine zx_get (C := RJ2) (T := TJ2) (N0 := 3) (ref := RJ2) X K in_J2 0 rfl hc6 2 (by decide) q260 (fun _ h => h) rfl dJ2_add_17 ?_
  refine zd_rVV (C := RJ2) (σR := σ) X K E (jl_add_2d (Θ := zR Θ) ht hc hc6 o v (m + 1) hv) [] (by rw [List.append_nil]; exact List.Perm.refl _) (i0 := 0) rfl hc6 rfl (lw_V q374 q376 qs0 q114 q377) ⟨rfl, by decide, by decide, rfl⟩ ⟨Nat.le_of_ble_eq_true rfl, Nat.le_of_ble_eq_true rfl⟩ ⟨by omega, by omega⟩ (Nat.le_of_ble_eq_true rfl) dJ2_add_20 rfl (fun σ' ys' e => z_app0 ?_)
  refine z_iconst X 1 dJ2_add_23 ?_
  exact R _ _ _ _ _ _ _ dJ2_add_24 rfl (by omega) (by omega) ⟨rfl, e⟩
theorem jl_clear (ht : (zt_ty Θ)[5]? = some (cA, .object "java/lang/Object")) (hc6 : (zt_cl Θ)[6]? = some (RJ2, TJ2, 3)) (o el cap s : Nat) (m : Int) (f : Nat → Option Nat) (hs : s ≤ cap) (hM : cap ≤ 100000000) : ZDV l (zR Θ) cA δ yJ2_clear cJ2_clear 4 1 20 0 0 [.ref o] σ (jLs o m el (s : Int) :: jAr cA el cap f :: tl) (fun _ ys => ys = jLs o (m + 1) el 0 :: jAr cA el cap (fun j => if j < s then none else f j) :: tl) := by
  refine ZDV.of (by decide) (Nat.le_of_ble_eq_true rfl) (fun Γ X K E R => ?_)
  refine z_aload_n X 0 dJ2_clear_0 rfl ?_
  refine z_dup X dJ2_clear_1 rfl ?_
  refine zx_get (C := RJ2) (T := TJ2) (N0 := 3) (ref := RJ2) X K in_J2 0 rfl hc6 0 (by decide) q262 (u_same (X.hts _ q263)) rfl dJ2_clear_2 ?_
  refine z_iconst X 1 dJ2_clear_5 ?_
  refine z_iadd X dJ2_clear_6 ?_
  refine zx_put (C := RJ2) (T := TJ2) (N0 := 3) (ref := RJ2) (ty := .int) X K in_J2 tyJ2 tyJ2_ok nmJ2 0 rfl hc6 0 (by decide) q262 (u_same (X.hts _ q263)) rfl (by decide +kernel) rfl rfl (Nat.le_of_ble_eq_true rfl) dJ2_clear_7 ?_
  refine z_aload_n X 0 dJ2_clear_10 rfl ?_
  refine zx_get (C := RJ2) (T := TJ2) (N0 := 3) (ref := RJ2) X K in_J2 0 rfl hc6 1 (by decide) q259 (fun _ h => h) rfl dJ2_clear_11 ?_
  refine z_astore_nK X K dJ2_clear_14 rfl rfl ?_
  refine z_aload_n X 1 dJ2_clear_15 rfl ?_
  refine zx_get (C := RJ2) (T := TJ2) (N0 := 3) (ref := RJ2) X K in_J2 0 rfl hc6 2 (by decide) q260 (fun _ h => h) rfl dJ2_clear_16 ?_
  refine z_istore_nK X K dJ2_clear_19 rfl rfl ?_
  refine z_aload_n X 2 dJ2_clear_20 rfl ?_
  refine z_iconst X 0 dJ2_clear_21 ?_
  refine z_dup_x1 X dJ2_clear_22 rfl rfl ?_
  refine zx_put (C := RJ2) (T := TJ2) (N0 := 3) (ref := RJ2) (ty := .int) X K in_J2 tyJ2 tyJ2_ok nmJ2 0 rfl hc6 2 (by decide) q260 (fun _ h => h) rfl (by decide +kernel) rfl rfl (Nat.le_of_ble_eq_true rfl) dJ2_clear_23 ?_
  refine z_istore_nK X K dJ2_clear_26 rfl rfl ?_
  have key : ∀ c i : Nat, i + c = s → Z Γ 0 0 σ (jLs o (m + 1) el 0 :: jAr cA el cap (fun j => if j < i then none else f j) :: tl) 27 [(3, .int (iz (i : Int))), (2, .int (iz (s : Int))), (1, .ref el), (0, .ref o)] [] := by
    intro c
    induction c with
    | zero =>
      intro i hi
      have hi : i = s := by omega
      subst hi
      have hz : InR (i : Int) := ⟨by omega, by omega⟩
      refine z_iload_n X 0 dJ2_clear_27 rfl ?_
      refine z_iload_n X 1 dJ2_clear_28 rfl ?_
      refine z_icmp_ge X 42 dJ2_clear_29 (by decide) hz hz (fun _ => ?_) (fun q => absurd q (by omega))
      exact R _ _ _ _ _ _ dJ2_clear_42 (Nat.le_refl _) (Nat.le_refl _) rfl
    | succ c ih =>
      intro i hi
      have hz : InR (i : Int) := ⟨by omega, by omega⟩
      have hz2 : InR (s : Int) := ⟨by omega, by omega⟩
      refine z_iload_n X 0 dJ2_clear_27 rfl ?_
      refine z_iload_n X 1 dJ2_clear_28 rfl ?_
      refine z_icmp_ge X 42 dJ2_clear_29 (by decide) hz hz2 (fun q => absurd q (by omega)) (fun _ => ?_)
      refine z_aload_n X 2 dJ2_clear_32 rfl ?_
      refine z_iload_n X 0 dJ2_clear_33 rfl ?_
      refine z_null X dJ2_clear_34 ?_
      refine zx_astqN (E := "java/lang/Object") X K 1 5 rfl ht (by omega) ⟨by omega, by omega⟩ dJ2_clear_35 ?_
      rw [Int.toNat_natCast]
      refine z_iincK X K 0 dJ2_clear_36 rfl rfl rfl ?_
      refine z_goto X (tgt := 27) dJ2_clear_39 (by decide) ?_
      have h1 := ih (i + 1) (by omega)
      have e : va_up (fun j => if j < i then none else f j) i none = fun j => if j < i + 1 then none else f j := by
        funext j
        unfold va_up
        by_cases h : j = i
        · simp [h]
        · by_cases h2 : j < i
          · simp [h, h2, show j < i + 1 by omega]
          · simp [h, h2, show ¬ j < i + 1 by omega]
      rw [← e] at h1
      exact h1
  have h0 := key s 0 (by omega)
  have e : (fun j => if j < 0 then none else f j) = f := by
    funext j
    rw [if_neg (Nat.not_lt_zero _)]
  rw [e] at h0
  exact h0
theorem jl_cleard (hc6 : (zt_cl Θ)[6]? = some (RJ2, TJ2, 3)) (o : Nat) (m : Int) : ZDV l (zR Θ) cA δ yJ2_clear cJ2_clear 4 1 20 0 0 [.ref o] σ (jLs o m δ.1 0 :: tl) (fun _ ys => ys = jLs o (m + 1) δ.1 0 :: tl) := by
  refine ZDV.of (by decide) (Nat.le_of_ble_eq_true rfl) (fun Γ X K E R => ?_)
  refine z_aload_n X 0 dJ2_clear_0 rfl ?_
  refine z_dup X dJ2_clear_1 rfl ?_
  refine zx_get (C := RJ2) (T := TJ2) (N0 := 3) (ref := RJ2) X K in_J2 0 rfl hc6 0 (by decide) q262 (u_same (X.hts _ q263)) rfl dJ2_clear_2 ?_
  refine z_iconst X 1 dJ2_clear_5 ?_
  refine z_iadd X dJ2_clear_6 ?_
  refine zx_put (C := RJ2) (T := TJ2) (N0 := 3) (ref := RJ2) (ty := .int) X K in_J2 tyJ2 tyJ2_ok nmJ2 0 rfl hc6 0 (by decide) q262 (u_same (X.hts _ q263)) rfl (by decide +kernel) rfl rfl (Nat.le_of_ble_eq_true rfl) dJ2_clear_7 ?_
  refine z_aload_n X 0 dJ2_clear_10 rfl ?_
  refine zx_get (C := RJ2) (T := TJ2) (N0 := 3) (ref := RJ2) X K in_J2 0 rfl hc6 1 (by decide) q259 (fun _ h => h) rfl dJ2_clear_11 ?_
  refine z_astore_nK X K dJ2_clear_14 rfl rfl ?_
  refine z_aload_n X 1 dJ2_clear_15 rfl ?_
  refine zx_get (C := RJ2) (T := TJ2) (N0 := 3) (ref := RJ2) X K in_J2 0 rfl hc6 2 (by decide) q260 (fun _ h => h) rfl dJ2_clear_16 ?_
  refine z_istore_nK X K dJ2_clear_19 rfl rfl ?_
  refine z_aload_n X 2 dJ2_clear_20 rfl ?_
  refine z_iconst X 0 dJ2_clear_21 ?_
  refine z_dup_x1 X dJ2_clear_22 rfl rfl ?_
  refine zx_put (C := RJ2) (T := TJ2) (N0 := 3) (ref := RJ2) (ty := .int) X K in_J2 tyJ2 tyJ2_ok nmJ2 0 rfl hc6 2 (by decide) q260 (fun _ h => h) rfl (by decide +kernel) rfl rfl (Nat.le_of_ble_eq_true rfl) dJ2_clear_23 ?_
  refine z_istore_nK X K dJ2_clear_26 rfl rfl ?_
  refine z_iload_n X 0 dJ2_clear_27 rfl ?_
  refine z_iload_n X 1 dJ2_clear_28 rfl ?_
  refine z_icmp_ge X 42 dJ2_clear_29 (by decide) InR0 InR0 (fun _ => ?_) (fun q => absurd q (by decide))
  exact R _ _ _ _ _ _ dJ2_clear_42 (Nat.le_refl _) (Nat.le_refl _) rfl
/-- a step's object -/
abbrev jSt (a : Nat) (g : Int → Int) : Nat × va_E := (a, .inr (12, [.int (iz (g 0)), .int (iz (g 1)), .int (iz (g 2)), .int (iz (g 3))]))
theorem jl_isEmpty (hc6 : (zt_cl Θ)[6]? = some (RJ2, TJ2, 3)) (o el : Nat) (m s : Int) (hs : InR s) : ZDI l (zR Θ) cA δ yJ2_isEmpty cJ2_isEmpty 1 .boolean 1 20 0 0 [.ref o] σ (jLs o m el s :: tl) (fun x _ ys => x = (if s = 0 then 1 else 0) ∧ ys = jLs o m el s :: tl) := by
  refine ZDI.of (by decide) (Nat.le_of_ble_eq_true rfl) (fun Γ X K E R => ?_)
  refine z_aload_n X 0 dJ2_isEmpty_0 rfl ?_
  refine zx_get (C := RJ2) (T := TJ2) (N0 := 3) (ref := RJ2) X K in_J2 0 rfl hc6 2 (by decide) q260 (fun _ h => h) rfl dJ2_isEmpty_1 ?_
  refine z_if_ne X 11 dJ2_isEmpty_4 (by decide) hs (fun q => ?_) (fun q => ?_)
  · refine z_iconst X 0 dJ2_isEmpty_11 ?_
    exact R _ _ _ _ _ _ _ dJ2_isEmpty_12 rfl (Nat.le_refl _) (Nat.le_refl _) ⟨by rw [if_neg q], rfl⟩
  · refine z_iconst X 1 dJ2_isEmpty_7 ?_
    refine z_goto X (tgt := 12) dJ2_isEmpty_8 (by decide) ?_
    exact R _ _ _ _ _ _ _ dJ2_isEmpty_12 rfl (Nat.le_refl _) (Nat.le_refl _) ⟨by rw [if_pos q], rfl⟩
end JL2
