/-! JLIST: the members of ArrayList that grow and clear, over raw cells -/
section JROWS
variable {Γ : ZG} {cc : ByteArray} {own : String} {fr lo : Nat} {k n : Nat} {σ : ZS} {xs : va_W} {pc : Nat} {lv : List (Nat × Value)} {st : List Value} {l : Launch} {Θ : ZTh} {nL mc0 ms0 : Nat} {cA : ClassId} {δ : Nat × Nat} {a : Nat}
theorem z_front {q : Nat × va_E} (h : Z Γ k n σ (q :: xs) pc lv st) : Z Γ k n σ (xs ++ [q]) pc lv st := z_perm [] (by rw [List.append_nil]; exact List.perm_append_singleton _ _) h
theorem z_app0 (h : Z Γ k n σ xs pc lv st) : Z Γ k n σ (xs ++ []) pc lv st := by rw [List.append_nil]; exact h
theorem z_ldcM (X : ZX Γ cc own fr lo) (E : ZDe Γ cA δ) {index : Nat} (hlink : Cond.classLink own index "[Ljava/lang/Object;" ∈ lw_all) (d : decode cc pc = .ok (.ldc index, 2)) (h : Z Γ k n σ xs (pc + 2) lv (.ref δ.2 :: st)) : Z Γ k n σ xs pc lv st := fun H locs ls hP hD hS hv => va_ldcM X.hx X.hb X.hown (X.hts _ hlink) E.2.2.2 d (h H locs ls hP hD hS hv)
theorem z_acmp_same (X : ZX Γ cc own fr lo) {x : Nat} {off : Int} (tgt : Nat) (d : decode cc pc = .ok (.if_acmp .ne off, 3)) (ht : (pc : Int) + off = (tgt : Int)) (h : Z Γ k n σ xs (pc + 3) lv st) : Z Γ k n σ xs pc lv (.ref x :: .ref x :: st) := fun H locs ls hP hD hS hv => lv_acmp_ne (rx := some x) (ry := some x) X.hx X.hb d ht (fun e => absurd rfl e) (fun _ => h H locs ls hP hD hS hv)
theorem z_acmp_sameE (X : ZX Γ cc own fr lo) {x : Nat} {off : Int} (tgt : Nat) (d : decode cc pc = .ok (.if_acmp .eq off, 3)) (ht : (pc : Int) + off = (tgt : Int)) (h : Z Γ k n σ xs tgt lv st) : Z Γ k n σ xs pc lv (.ref x :: .ref x :: st) := fun H locs ls hP hD hS hv => lv_acmp_eq (rx := some x) (ry := some x) X.hx X.hb d ht (fun _ => h H locs ls hP hD hS hv) (fun e => absurd rfl e)
theorem z_getDE (X : ZX Γ cc own fr lo) (E : ZDe Γ cA δ) {index : Nat} (hlink : Cond.fieldLink own index RJ2 "DEFAULTCAPACITY_EMPTY_ELEMENTDATA" "[Ljava/lang/Object;" ∈ lw_all) (d : decode cc pc = .ok (.getstatic index, 3)) (h : Z Γ k n σ xs (pc + 3) lv (.ref δ.1 :: st)) : Z Γ k n σ xs pc lv st := fun H locs ls hP hD hS hv => va_gets X.hx X.hb E.1 hS X.hown (X.hts _ hlink) (fun _ h => h) d (h H locs ls hP hD hS hv)
theorem z_alenD (X : ZX Γ cc own fr lo) (K : ZCap Γ l Θ nL mc0 ms0) (E : ZDe Γ cA δ) {ty : FieldType} (t0 : Nat) (ht : (zt_ty Θ)[t0]? = some (cA, ty)) (d : decode cc pc = .ok (.arraylength, 1)) (h : Z Γ k n σ xs (pc + 1) lv (.int (iz 0) :: st)) : Z Γ k n σ xs pc lv (.ref δ.1 :: st) := by
  obtain ⟨rfl, rfl, -⟩ := K
  intro H locs ls hP hD hS hv
  have E2 := zDe.go E hS (Vm.Alike.refl (zg_s Γ).vm) (fun _ h => h)
  exact va_alen X.hx X.hb X.hK E2.2.1 0 t0 rfl ht rfl d (h H locs ls hP hD hS hv)
theorem z_getC (X : ZX Γ cc own fr lo) (K : ZCap Γ l Θ nL mc0 ms0) (E : ZDe Γ cA δ) {index t0 : Nat} {x : vp_A} (i : Nat) (hx : xs[i]? = some (a, .inl (cA, x))) (ht : (zt_ty Θ)[t0]? = some (cA, .object "java/lang/Object")) (hlink : Cond.methodLink own index ⟨"java/lang/Object", "getClass", "()Ljava/lang/Class;"⟩ ∈ lw_all) (hf : 1 ≤ fr) (hl : (st.map fun v => v.category).sum + 14 ≤ lo) (d : decode cc pc = .ok (.invokevirtual index, 3)) (h : Z Γ k n σ xs (pc + 3) lv (.ref δ.2 :: st)) : Z Γ k n σ xs pc lv (.ref a :: st) := by
  obtain ⟨rfl, rfl, -⟩ := K
  intro H locs ls hP hD hS hv
  have h1 := va_nmO (nm := "[Ljava/lang/Object;") (X.hK.2 t0 _ ht).2 (by decide)
  have h2 : H[a]? = some (vp_cell cA x) := hP _ _ (zx_at hx)
  have h3 : (vp_cell cA x).vm.isStatics = false ∧ (vp_cell cA x).cls = cA := by
    obtain ⟨n, f | f | f | f | f⟩ := x <;> exact ⟨rfl, rfl⟩
  exact va_getC X.hx X.hb (X.hml.trans hv.1.symm) X.hown (X.hts _ hlink) (va_Nw.use rfl (X.nw q1763 rfl)) (X.hts _ q1762) (X.hts _ q400) (X.hts _ q418) E.2.2.2 ⟨_, h2, h3.1, by rw [h3.2]; exact h1⟩ (by rw [X.hfr]; exact hf) (by rw [X.hlo]; exact hl) d (h H locs ls hP hD hS hv)
theorem zx_copyq (X : ZX Γ cc own fr lo) (K : ZCap Γ l Θ nL mc0 ms0) {index t0 a0 n0 n1 : Nat} {f g : Nat → Option Nat} (i0 i1 : Nat) (hx0 : xs[i0]? = some (a0, .inl (cA, n0, .inr (.inr (.inr (.inr f)))))) (hx1 : xs[i1]? = some (a, .inl (cA, n1, .inr (.inr (.inr (.inr g)))))) (ht : (zt_ty Θ)[t0]? = some (cA, .object "java/lang/Object")) (hc : (zt_cl Θ)[12]? = some (RX14, TX14, 4)) (hlink : Cond.methodLink own index arraycopyName ∈ lw_all) (h0 : n0 < 2147483648) (h5 : n0 ≤ n1) (hel : ∀ i : Nat, i < n0 → ∀ y : Nat, f i = some y → ∃ vs, (y, .inr (12, vs)) ∈ xs)
    (hf : 1 ≤ fr) (hl : (st.map fun v => v.category).sum + (nativeFrameWords "java/lang/System" "arraycopy" 5 + 11) ≤ lo) (d : decode cc pc = .ok (.invokestatic index, 3)) (h : Z Γ k n σ (xs.set i1 (a, .inl (cA, n1, .inr (.inr (.inr (.inr (va_cpy f g 0 0 n0))))))) (pc + 3) lv st) : Z Γ k n σ xs pc lv (.int (iz (n0 : Int)) :: .int (iz 0) :: .ref a :: .int (iz 0) :: .ref a0 :: st) := by
  obtain ⟨rfl, rfl, -⟩ := K
  intro H locs ls hP hD hS hv
  have hi : InR (n0 : Int) := ⟨by omega, by omega⟩
  have e0 : (iz 0).toNatClampNeg = 0 := rfl
  have en : (iz (n0 : Int)).toNatClampNeg = n0 := by
    show (iz (n0 : Int)).toInt.toNat = n0
    rw [iz_toInt hi]
    omega
  obtain ⟨c0, t1, f1, f2, f3⟩ := Cond.castable_spec (va_Nw.use (A := zg_a Γ) rfl (X.nw q1756 rfl))
  refine va_copyq (C := RX14) X.hx X.hb (X.hml.trans hv.1.symm) X.hown (X.hts _ hlink) (X.hts _ q429) (X.hts _ q428) (X.hts _ q122) X.hK hP hD hS _ _ t0 t0 (zx_at hx0) (zx_at hx1) ht ht (by decide) (by decide) (fun q => absurd ((iz_lt0 hi).mp q) (by omega)) (by rw [e0, en]; omega) (by rw [e0, en]; omega) ?_ ?_ (by rw [X.hfr]; exact hf) (by rw [X.hlo]; exact hl) d (fun H1 locs1 hP1 hD1 hS1 => ?_)
  · intro i hi2 y hy
    rw [en] at hi2
    rw [e0, Nat.zero_add] at hy
    obtain ⟨vs, hm⟩ := hel i hi2 y hy
    obtain ⟨j, hj⟩ := List.getElem?_of_mem hm
    exact va_recv X.hK hP hc (zx_at hj)
  · intro comp c1 g1 g2
    cases g1.symm.trans f2
    cases g2.symm.trans f1
    exact f3
  · rw [zx_set, e0, en] at hP1 hD1
    exact h H1 locs1 ls hP1 hD1 hS1 hv
end JROWS
/-- an array of objects; a list's object; a step's object -/
abbrev jAr (cA : ClassId) (a cap : Nat) (f : Nat → Option Nat) : Nat × va_E := (a, .inl (cA, cap, .inr (.inr (.inr (.inr f)))))
abbrev jLs (o : Nat) (m : Int) (el : Nat) (s : Int) : Nat × va_E := (o, .inr (6, [.int (iz m), .ref el, .int (iz s)]))
section JL
variable {l : Launch} {Θ : ZTh} {cA : ClassId} {δ : Nat × Nat} {σ : ZS} {tl : va_W}
theorem jl_newLength (xs : va_W) {a b c : Int} (hb : InR b) (hc : InR c) (h0 : 0 < a + max b c) (h1 : a + max b c ≤ 2147483639) : ZDI l (zR Θ) cA δ yJ3_newLength cJ3_newLength 4 .int 1 20 0 0 [.int (iz a), .int (iz b), .int (iz c)] σ xs (fun x _ ys => x = a + max b c ∧ ys = xs) := by
  refine ZDI.of (by decide) (Nat.le_of_ble_eq_true rfl) (fun Γ X K E R => ?_)
  have hs : InR (a + max b c) := ⟨by omega, by omega⟩
  refine z_iload_n X 0 dJ3_newLength_0 rfl ?_
  refine z_iload_n X 1 dJ3_newLength_1 rfl ?_
  refine z_iload_n X 2 dJ3_newLength_2 rfl ?_
  refine z_mmax X q389 q390 q120 q391 rfl (Nat.le_of_ble_eq_true rfl) ⟨Nat.zero_le _, Nat.zero_le _⟩ hb hc dJ3_newLength_3 ?_
  refine z_iadd X dJ3_newLength_6 ?_
  refine z_istore_nK X K dJ3_newLength_7 rfl rfl ?_
  refine z_iconst X 0 dJ3_newLength_8 ?_
  refine z_iload_n X 0 dJ3_newLength_9 rfl ?_
  refine z_icmp_ge X 21 dJ3_newLength_10 (by decide) InR0 hs (fun q => absurd q (by omega)) (fun _ => ?_)
  refine z_iload_n X 0 dJ3_newLength_13 rfl ?_
  refine z_ldc X 2147483639 q392 (by decide) dJ3_newLength_14 ?_
  refine z_icmp_gt X 21 dJ3_newLength_16 (by decide) hs ⟨by decide, by decide⟩ (fun q => absurd q (by omega)) (fun _ => ?_)
  refine z_iload_n X 0 dJ3_newLength_19 rfl ?_
  exact R _ _ _ _ _ _ _ dJ3_newLength_20 rfl (Nat.le_refl _) (Nat.le_refl _) ⟨rfl, rfl⟩
theorem jl_copyOf_2 (ht : (zt_ty Θ)[5]? = some (cA, .object "java/lang/Object")) (hc : (zt_cl Θ)[12]? = some (RX14, TX14, 4)) (el cap m : Nat) (f : Nat → Option Nat) (hm : cap ≤ m) (hM : m ≤ 100000000) (hel : ∀ i : Nat, i < cap → ∀ y : Nat, f i = some y → ∃ vs, (y, .inr (12, vs)) ∈ tl) : ZDR l (zR Θ) cA δ yJ5_copyOf_2 cJ5_copyOf_2 4 (.array (.object "java/lang/Object")) 1 30 1 m [.ref el, .int (iz (m : Int)), .ref δ.2] σ (jAr cA el cap f :: tl) (fun a _ ys => ys = jAr cA a m (va_cpy f (fun _ => none) 0 0 cap) :: jAr cA el cap f :: tl) := by
  refine ZDR.of (by decide) (Nat.le_of_ble_eq_true rfl) (Or.inr ⟨_, rfl⟩) (fun Γ X K E R => ?_)
  have hm1 : InR (m : Int) := ⟨by omega, by omega⟩
  have hc1 : InR (cap : Int) := ⟨by omega, by omega⟩
  refine z_aload_n X 2 dJ5_copyOf_2_0 rfl ?_
  refine z_ldcM X E q422 dJ5_copyOf_2_1 ?_
  refine z_acmp_same X 13 dJ5_copyOf_2_3 (by decide) ?_
  refine z_iload_n X 1 dJ5_copyOf_2_6 rfl ?_
  refine zx_newq X K q423 X.hNw.2.2 ht rfl (by omega) ⟨Nat.le_refl _, by rw [Nat.zero_add]; exact Nat.le_refl _⟩ dJ5_copyOf_2_7 (fun a => z_front ?_)
  refine z_goto X (tgt := 24) dJ5_copyOf_2_10 (by decide) ?_
  refine z_astore_nK X K dJ5_copyOf_2_24 rfl rfl ?_
  refine z_aload_n X 1 dJ5_copyOf_2_25 rfl ?_
  refine z_iconst X 0 dJ5_copyOf_2_26 ?_
  refine z_aload_n X 0 dJ5_copyOf_2_27 rfl ?_
  refine z_iconst X 0 dJ5_copyOf_2_28 ?_
  refine z_aload_n X 1 dJ5_copyOf_2_29 rfl ?_
  refine zx_alen X K 1 5 rfl ht dJ5_copyOf_2_30 ?_
  refine z_iload_n X 2 dJ5_copyOf_2_31 rfl ?_
  refine z_mmin X q424 q425 q120 q426 rfl (Nat.le_of_ble_eq_true rfl) ⟨by rw [K.2.2.2.1]; exact Nat.le_refl _, by rw [K.2.2.2.2]; omega⟩ hc1 hm1 dJ5_copyOf_2_32 ?_
  rw [show min (cap : Int) (m : Int) = (cap : Int) by omega]
  refine zx_copyq X K 1 0 rfl rfl ht hc q427 (by omega) hm (fun i hi y hy => ?_) (Nat.le_refl _) (Nat.le_of_ble_eq_true rfl) dJ5_copyOf_2_35 ?_
  · obtain ⟨vs, h⟩ := hel i hi y hy
    exact ⟨vs, List.mem_cons_of_mem _ (List.mem_cons_of_mem _ h)⟩
  refine z_aload_n X 0 dJ5_copyOf_2_38 rfl ?_
  exact R _ _ _ _ _ _ _ dJ5_copyOf_2_39 (Nat.le_refl _) (by omega) rfl
theorem jl_copyOf (ht : (zt_ty Θ)[5]? = some (cA, .object "java/lang/Object")) (hc : (zt_cl Θ)[12]? = some (RX14, TX14, 4)) (el cap m : Nat) (f : Nat → Option Nat) (hm : cap ≤ m) (hM : m ≤ 100000000) (hel : ∀ i : Nat, i < cap → ∀ y : Nat, f i = some y → ∃ vs, (y, .inr (12, vs)) ∈ tl) : ZDR l (zR Θ) cA δ yJ5_copyOf cJ5_copyOf 2 (.array (.object "java/lang/Object")) 2 60 1 m [.ref el, .int (iz (m : Int))] σ (jAr cA el cap f :: tl) (fun a _ ys => ys = jAr cA a m (va_cpy f (fun _ => none) 0 0 cap) :: jAr cA el cap f :: tl) := by
  refine ZDR.of (by decide) (Nat.le_of_ble_eq_true rfl) (Or.inr ⟨_, rfl⟩) (fun Γ X K E R => ?_)
  refine z_aload_n X 0 dJ5_copyOf_0 rfl ?_
  refine z_iload_n X 1 dJ5_copyOf_1 rfl ?_
  refine z_aload_n X 0 dJ5_copyOf_2 rfl ?_
  refine z_getC X K E 0 rfl ht q399 (by decide) (Nat.le_of_ble_eq_true rfl) dJ5_copyOf_3 ?_
  refine zd_rSR (σR := σ) X K E (jl_copyOf_2 (Θ := zR Θ) ht hc el cap m f hm hM hel) [] (by rw [List.append_nil]) (lw_S q419 q420 q121 q421) ⟨by decide, by decide, rfl⟩ ⟨Nat.le_of_ble_eq_true rfl, Nat.le_of_ble_eq_true rfl⟩ ⟨by omega, by omega⟩ (Nat.le_of_ble_eq_true rfl) dJ5_copyOf_6 rfl (fun a σ' ys' e => z_app0 ?_)
  exact R _ _ _ _ _ _ _ dJ5_copyOf_9 (Nat.le_refl _) (by omega) e
end JL
