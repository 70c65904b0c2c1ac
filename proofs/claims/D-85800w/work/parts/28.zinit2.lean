/-! ZINIT 2: stores into the array ahead, fields of the object behind it; the powers -/
section ZINIT2
variable {Γ : ZG} {cc : ByteArray} {own : String} {fr lo : Nat} {k n : Nat} {σ : ZS} {xs : va_W} {pc : Nat} {lv : List (Nat × Value)} {st : List Value} {l : Launch} {Θ : ZTh} {nL mc0 ms0 : Nat} {cA : ClassId} {a N0 : Nat} {f : Int → Int}
theorem zx_astI (X : ZX Γ cc own fr lo) (K : ZCap Γ l Θ nL mc0 ms0) (p t0 : Nat) (hx : xs[p]? = some (jNu cA a N0 f)) (ht : (zt_ty Θ)[t0]? = some (cA, .int)) (hn : N0 < 2147483648) {i v : Int} (hi : 0 ≤ i ∧ i < (N0 : Int)) (d : decode cc pc = .ok (.iastore, 1)) (h : Z Γ k n σ (xs.set p (jNu cA a N0 (fun j => if j = i then v else f j))) (pc + 1) lv st) : Z Γ k n σ xs pc lv (.int (iz v) :: .int (iz i) :: .ref a :: st) := by
  obtain ⟨rfl, rfl, -⟩ := K
  intro H locs ls hP hD hS hv
  refine va_iast X.hx X.hb X.hK hP hD hS _ t0 (zx_at hx) ht (iz_vp_in hi.1 hi.2 hn) d (fun H1 locs1 hP1 hD1 hS1 => ?_)
  rw [zx_set, z_upd_row hi.1 hi.2 hn] at hP1 hD1
  exact h H1 locs1 ls hP1 hD1 hS1 hv
theorem zx_ast0 (X : ZX Γ cc own fr lo) (K : ZCap Γ l Θ nL mc0 ms0) (t0 : Nat) (ht : (zt_ty Θ)[t0]? = some (cA, .int)) (hn : Nat.blt N0 100000000 = true) {i v : Int} (h0 : decide (0 ≤ i) = true) (h1 : decide (i < (N0 : Int)) = true) (d : decode cc pc = .ok (.iastore, 1)) (h : Z Γ k n σ (jNu cA a N0 (fun j => if j = i then v else f j) :: xs) (pc + 1) lv st) : Z Γ k n σ (jNu cA a N0 f :: xs) pc lv (.int (iz v) :: .int (iz i) :: .ref a :: st) :=
  zx_astI X K 0 t0 rfl ht (Nat.lt_trans (Nat.le_of_ble_eq_true hn) (by decide)) ⟨of_decide_eq_true h0, of_decide_eq_true h1⟩ d h
theorem zx_aldI (X : ZX Γ cc own fr lo) (K : ZCap Γ l Θ nL mc0 ms0) (p t0 : Nat) (hx : xs[p]? = some (jNu cA a N0 f)) (ht : (zt_ty Θ)[t0]? = some (cA, .int)) (hn : N0 < 2147483648) {i : Int} (hi : 0 ≤ i ∧ i < (N0 : Int)) (d : decode cc pc = .ok (.iaload, 1)) (h : Z Γ k n σ xs (pc + 1) lv (.int (iz (f i)) :: st)) : Z Γ k n σ xs pc lv (.int (iz i) :: .ref a :: st) := by
  obtain ⟨rfl, rfl, -⟩ := K
  intro H locs ls hP hD hS hv
  refine va_iald X.hx X.hb X.hK hP _ t0 (zx_at hx) ht (iz_vp_in hi.1 hi.2 hn) d ?_
  rw [iz_clamp hi.1 hi.2 hn, show ((i.toNat : Nat) : Int) = i from Int.toNat_of_nonneg hi.1]
  exact h H locs ls hP hD hS hv
theorem zx_putSF {c0 : Nat × va_E} {o : Nat} (X : ZX Γ cc own fr lo) (K : ZCap Γ l Θ nL mc0 ms0) {ref C : String} {T : u_T} {N0 ci index : Nat} {fs : List Value} (hin : ∀ w ∈ u_ws C T N0, w ∈ lw_all) (ty0 : Nat → FieldType) (hty : ∀ k, k < N0 → parseFieldDescriptor (T k).2.2.1 = some (ty0 k)) (hnm : ∀ a, a < N0 → ∀ b, b < N0 → a ≠ b → (T a).2.1 ≠ (T b).2.1) (hc : (zt_cl Θ)[ci]? = some (C, T, N0)) (j : Nat) (hj : j < N0) (hlink : Cond.fieldLink own index ref (T j).2.1 (T j).2.2.1 ∈ lw_all) (hsame : ∀ x, (zg_s Γ).fieldFound? (T j).1 (T j).2.1 (T j).2.2.1 = some x → (zg_s Γ).fieldFound? ref (T j).2.1 (T j).2.2.1 = some x) (hfin : (T j).2.2.2 = true) (hinit : (zg_me Γ).name = "<init>") (hdecl : (T j).1 = own) {ty : FieldType} {v : Value} (hd : parseFieldDescriptor (T j).2.2.1 = some ty) (hnr : narrow ty v = v) (hfit : fits ty v = true) (hl : fs.length = N0) (d : decode cc pc = .ok (.putfield index, 3)) (h : ∀ fs', fs' = fs.set j v → fs'.length = N0 → Z Γ k n σ ((o, .inr (ci, fs')) :: c0 :: xs) (pc + 3) lv st) : Z Γ k n σ (c0 :: (o, .inr (ci, fs)) :: xs) pc lv (v :: .ref o :: st) :=
  zx_putF (C := C) (T := T) X K hin ty0 hty hnm 1 rfl hc j hj hlink hsame hfin hinit hdecl hd hnr hfit (by rw [hl]; exact hj) d (z_perm (ys := (o, .inr (ci, fs.set j v)) :: c0 :: xs) [] (by rw [List.append_nil]; exact List.Perm.swap _ _ _) (h _ rfl (by rw [List.length_set]; exact hl)))
theorem zx_put0 {o : Nat} (X : ZX Γ cc own fr lo) (K : ZCap Γ l Θ nL mc0 ms0) {ref C : String} {T : u_T} {N0 ci index : Nat} {fs : List Value} (hin : ∀ w ∈ u_ws C T N0, w ∈ lw_all) (ty0 : Nat → FieldType) (hty : ∀ k, k < N0 → parseFieldDescriptor (T k).2.2.1 = some (ty0 k)) (hnm : ∀ a, a < N0 → ∀ b, b < N0 → a ≠ b → (T a).2.1 ≠ (T b).2.1) (hc : (zt_cl Θ)[ci]? = some (C, T, N0)) (j : Nat) (hj : j < N0) (hlink : Cond.fieldLink own index ref (T j).2.1 (T j).2.2.1 ∈ lw_all) (hsame : ∀ x, (zg_s Γ).fieldFound? (T j).1 (T j).2.1 (T j).2.2.1 = some x → (zg_s Γ).fieldFound? ref (T j).2.1 (T j).2.2.1 = some x) (hfin : (T j).2.2.2 = false) {ty : FieldType} {v : Value} (hd : parseFieldDescriptor (T j).2.2.1 = some ty) (hnr : narrow ty v = v) (hfit : fits ty v = true) (hl : fs.length = N0) (d : decode cc pc = .ok (.putfield index, 3)) (h : ∀ fs', fs' = fs.set j v → fs'.length = N0 → Z Γ k n σ ((o, .inr (ci, fs')) :: xs) (pc + 3) lv st) : Z Γ k n σ ((o, .inr (ci, fs)) :: xs) pc lv (v :: .ref o :: st) :=
  zx_put (C := C) (T := T) X K hin ty0 hty hnm 0 rfl hc j hj hlink hsame hfin hd hnr hfit (by rw [hl]; exact hj) d (h _ rfl (by rw [List.length_set]; exact hl))
end ZINIT2
/-- the powers of the field, as the plain form's constructor makes them -/
def pwN (v : Int) : Int := if v * 2 ≤ 255 then v * 2 else zxor (v * 2) 301
def pwV : Nat → Int
  | 0 => 1
  | k + 1 => pwN (pwV k)
def pwP : Nat → Int → Int
  | 0 => fun _ => 0
  | k + 1 => fun j => if j = (k : Int) then pwV k else pwP k j
def pwD : Nat → Int → Int
  | 0 => fun _ => 0
  | k + 1 => fun j => if j = pwV k then (if (k : Int) < 255 then (k : Int) else pwD k (pwV k)) else pwD k j
theorem pwN_in : ∀ v : Int, 0 ≤ v ∧ v < 256 → 0 ≤ pwN v ∧ pwN v < 256 := by
  have h : ∀ j : Nat, j < 256 → 0 ≤ pwN (j : Int) ∧ pwN (j : Int) < 256 := by decide +kernel
  intro v hv
  have := h v.toNat (by omega)
  rwa [Int.toNat_of_nonneg hv.1] at this
theorem pwV_in : ∀ k : Nat, 0 ≤ pwV k ∧ pwV k < 256 := by
  intro k
  induction k with
  | zero => exact ⟨by decide, by decide⟩
  | succ k ih => exact pwN_in _ ih
