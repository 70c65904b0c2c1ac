/-! ZPRESS: what the press's own constructor needs: symbols in their array, a cell brought ahead -/
section ZPRESS
variable {Γ : ZG} {cc : ByteArray} {own : String} {fr lo : Nat} {k n : Nat} {σ : ZS} {xs : va_W} {pc : Nat} {lv : List (Nat × Value)} {st : List Value} {l : Launch} {Θ : ZTh} {nL mc0 ms0 : Nat} {a : Nat}
theorem zx_astq (X : ZX Γ cc own fr lo) (K : ZCap Γ l Θ nL mc0 ms0) {cA : ClassId} {N0 v ci : Nat} {r : vw_C} {vs : List Value} {f : Nat → Option Nat} (i i2 t0 : Nat) (hx : xs[i]? = some (a, .inl (cA, N0, .inr (.inr (.inr (.inr f)))))) (ht : (zt_ty Θ)[t0]? = some (cA, .object r.1)) (hv0 : xs[i2]? = some (v, .inr (ci, vs))) (hc : (zt_cl Θ)[ci]? = some r) (hn : N0 < 2147483648) {j : Int} (hj : 0 ≤ j ∧ j < (N0 : Int)) (d : decode cc pc = .ok (.aastore, 1)) (h : Z Γ k n σ (xs.set i (a, .inl (cA, N0, .inr (.inr (.inr (.inr (va_up f j.toNat (some v)))))))) (pc + 1) lv st) : Z Γ k n σ xs pc lv (.ref v :: .int (iz j) :: .ref a :: st) := by
  obtain ⟨rfl, rfl, -⟩ := K
  intro H locs ls hP hD hS hv
  refine va_astq X.hx X.hb X.hK hP hD hS _ t0 _ ci (zx_at hx) ht (zx_at hv0) hc (iz_vp_in hj.1 hj.2 hn) d (fun H1 locs1 hP1 hD1 hS1 => ?_)
  rw [zx_set, iz_clamp hj.1 hj.2 hn] at hP1 hD1
  exact h H1 locs1 ls hP1 hD1 hS1 hv
/-- the cell between l1 and l2 comes ahead; the one ahead goes between them -/
theorem z_ahead {q : Nat × va_E} (l1 l2 : va_W) (h : Z Γ k n σ (q :: (l1 ++ l2)) pc lv st) : Z Γ k n σ (l1 ++ q :: l2) pc lv st := z_perm [] (by rw [List.append_nil]; exact List.perm_middle) h
theorem z_behind {q : Nat × va_E} (l1 l2 : va_W) (h : Z Γ k n σ (l1 ++ q :: l2) pc lv st) : Z Γ k n σ (q :: (l1 ++ l2)) pc lv st := z_perm [] (by rw [List.append_nil]; exact List.perm_middle.symm) h
end ZPRESS
/-- the first i symbols, at the addresses sa -/
def syX (sa : Nat → Nat) : Nat → va_W
  | 0 => []
  | i + 1 => (sa i, .inr (2, syFS (i : Int))) :: syX sa i
theorem syX_ext {sa sb : Nat → Nat} : ∀ {i : Nat}, (∀ j, j < i → sa j = sb j) → syX sa i = syX sb i := by
  intro i
  induction i with
  | zero => intro _; rfl
  | succ i ih =>
    intro h
    show (sa i, _) :: syX sa i = (sb i, _) :: syX sb i
    rw [h i (Nat.lt_succ_self _), ih (fun j hj => h j (Nat.lt_succ_of_lt hj))]
theorem syX_next {sa : Nat → Nat} {i a : Nat} : (a, .inr (2, syFS (i : Int))) :: syX sa i = syX (fun j => if j = i then a else sa j) (i + 1) := by
  show _ = ((if i = i then a else sa i), _) :: syX (fun j => if j = i then a else sa j) i
  rw [if_pos rfl, syX_ext (sa := sa) (sb := fun j => if j = i then a else sa j) (fun j hj => (if_neg (Nat.ne_of_lt hj)).symm)]
/-- the array that holds the first i of them -/
def syF (sa : Nat → Nat) (i : Nat) : Nat → Option Nat := fun j => if j < i then some (sa j) else none
theorem syF_0 {sa : Nat → Nat} : syF sa 0 = fun _ => none := by
  funext j
  exact if_neg (Nat.not_lt_zero j)
theorem syF_next {sa : Nat → Nat} {i a : Nat} : va_up (syF sa i) i (some a) = syF (fun j => if j = i then a else sa j) (i + 1) := by
  funext j
  unfold va_up syF
  by_cases h : j = i
  · rw [if_pos h, if_pos (by omega)]
    exact congrArg some (if_pos h).symm
  · rw [if_neg h]
    by_cases h2 : j < i
    · rw [if_pos h2, if_pos (by omega)]
      exact congrArg some (if_neg h).symm
    · rw [if_neg h2, if_neg (by omega)]
