/-! the plane, and what lays it; streams told (printed by tools/walkgenC.py) -/
theorem qArrI : Cond.arrayClass .int ∈ lw_all := q177
theorem pC_X2_49_X2 {Γ : ZG} {cc : ByteArray} {fr lo nL mc0 ms0 k n pc : Nat} {σ : ZS} {xs : va_W} {lv : List (Nat × Value)} {st : List Value} {l : Launch} {D : va_G} {ds : Nat → ClassId} {ad : Nat → Nat} {v : Int} (X : ZX Γ cc RX2 fr lo) (K : ZCap Γ l (ΘC D ds ad) nL mc0 ms0) (hb : v = 0 ∨ v = 1) (d : decode cc pc = .ok (.putfield 49, 3)) (h : ∀ σ', σ' = zst σ 32 5 v → Z Γ k n σ' xs (pc + 3) lv st) : Z Γ k n σ xs pc lv (.int (iz v) :: .ref (ad 32) :: st) := z_put' (C := RX2) (T := TX2) (N0 := 7) (ref := RX2) (kd := 0) (ty := .boolean) X K in_X2 tyX2 tyX2_ok nmX2 32 (Nat.le_of_ble_eq_true rfl) rfl rfl 5 (Nat.le_of_ble_eq_true rfl) q159 (fun _ h => h) rfl (by decide +kernel) (z_nb hb) (z_fitb hb) rfl d h
theorem gC_X2_19_X2 {Γ : ZG} {cc : ByteArray} {fr lo nL mc0 ms0 k n pc : Nat} {σ : ZS} {xs : va_W} {lv : List (Nat × Value)} {st : List Value} {l : Launch} {D : va_G} {ds : Nat → ClassId} {ad : Nat → Nat} (X : ZX Γ cc RX2 fr lo) (K : ZCap Γ l (ΘC D ds ad) nL mc0 ms0) (d : decode cc pc = .ok (.getfield 19, 3)) (h : Z Γ k n σ xs (pc + 3) lv (zval ad 1 (σ 32 6) :: st)) : Z Γ k n σ xs pc lv (.ref (ad 32) :: st) := z_get' (C := RX2) (T := TX2) (N0 := 7) (ref := RX2) (kd := 1) X K in_X2 32 (Nat.le_of_ble_eq_true rfl) rfl rfl 6 (Nat.le_of_ble_eq_true rfl) q161 (fun _ h => h) rfl d h
theorem gC_X2_19_X2R {Γ : ZG} {cc : ByteArray} {fr lo nL mc0 ms0 k n pc : Nat} {σ : ZS} {xs : va_W} {lv : List (Nat × Value)} {st : List Value} {l : Launch} {D : va_G} {ds : Nat → ClassId} {ad : Nat → Nat} (X : ZX Γ cc RX2 fr lo) (K : ZCap Γ l (ΘC D ds ad) nL mc0 ms0) (hy : 2 ≤ σ 32 6 ∧ σ 32 6 < 32) (d : decode cc pc = .ok (.getfield 19, 3)) (h : Z Γ k n σ xs (pc + 3) lv (.ref (ad (σ 32 6).toNat) :: st)) : Z Γ k n σ xs pc lv (.ref (ad 32) :: st) := gC_X2_19_X2 X K d (by rw [zval_nn (by omega)]; exact h)
theorem pC_X2_19_X2 {Γ : ZG} {cc : ByteArray} {fr lo nL mc0 ms0 k n pc : Nat} {σ : ZS} {xs : va_W} {lv : List (Nat × Value)} {st : List Value} {l : Launch} {D : va_G} {ds : Nat → ClassId} {ad : Nat → Nat} {q : Nat} (X : ZX Γ cc RX2 fr lo) (K : ZCap Γ l (ΘC D ds ad) nL mc0 ms0) (d : decode cc pc = .ok (.putfield 19, 3)) (h : ∀ σ', σ' = zst σ 32 6 (q : Nat) → Z Γ k n σ' xs (pc + 3) lv st) : Z Γ k n σ xs pc lv (.ref (ad q) :: .ref (ad 32) :: st) := by
  have e : (Value.ref (ad q)) = zval (zt_ad (ΘC D ds ad)) 1 (q : Int) := (zval_nat q).symm
  rw [e]
  exact z_put' (C := RX2) (T := TX2) (N0 := 7) (ref := RX2) (kd := 1) (ty := .object "MatrixPress$Symbol") X K in_X2 tyX2 tyX2_ok nmX2 32 (Nat.le_of_ble_eq_true rfl) rfl rfl 6 (Nat.le_of_ble_eq_true rfl) q161 (fun _ h => h) rfl (by decide +kernel) (by rw [zval_nat]; rfl) (by rw [zval_nat]; rfl) rfl d h
theorem gC_X2_23_X5 {Γ : ZG} {cc : ByteArray} {fr lo nL mc0 ms0 k n pc : Nat} {σ : ZS} {xs : va_W} {lv : List (Nat × Value)} {st : List Value} {l : Launch} {D : va_G} {ds : Nat → ClassId} {ad : Nat → Nat} (X : ZX Γ cc RX2 fr lo) (K : ZCap Γ l (ΘC D ds ad) nL mc0 ms0) {o : Nat} (ho : isSy o) (d : decode cc pc = .ok (.getfield 23, 3)) (h : Z Γ k n σ xs (pc + 3) lv (.int (iz (σ o 5)) :: st)) : Z Γ k n σ xs pc lv (.ref (ad o) :: st) := z_getN' (C := RX5) (T := TX5) (N0 := 11) (ref := RX5) (host := "MatrixPress") (kd := 0) X K in_X5 o (isSy_75 ho) (LC_sy ho) rfl 5 (Nat.le_of_ble_eq_true rfl) q298 (fun _ h => h) rfl d h
theorem pC_X2_29_X2 {Γ : ZG} {cc : ByteArray} {fr lo nL mc0 ms0 k n pc : Nat} {σ : ZS} {xs : va_W} {lv : List (Nat × Value)} {st : List Value} {l : Launch} {D : va_G} {ds : Nat → ClassId} {ad : Nat → Nat} {v : Int} (X : ZX Γ cc RX2 fr lo) (K : ZCap Γ l (ΘC D ds ad) nL mc0 ms0) (d : decode cc pc = .ok (.putfield 29, 3)) (h : ∀ σ', σ' = zst σ 32 2 v → Z Γ k n σ' xs (pc + 3) lv st) : Z Γ k n σ xs pc lv (.int (iz v) :: .ref (ad 32) :: st) := z_put' (C := RX2) (T := TX2) (N0 := 7) (ref := RX2) (kd := 0) (ty := .int) X K in_X2 tyX2 tyX2_ok nmX2 32 (Nat.le_of_ble_eq_true rfl) rfl rfl 2 (Nat.le_of_ble_eq_true rfl) q156 (fun _ h => h) rfl (by decide +kernel) rfl rfl rfl d h
theorem gC_X2_32_X5 {Γ : ZG} {cc : ByteArray} {fr lo nL mc0 ms0 k n pc : Nat} {σ : ZS} {xs : va_W} {lv : List (Nat × Value)} {st : List Value} {l : Launch} {D : va_G} {ds : Nat → ClassId} {ad : Nat → Nat} (X : ZX Γ cc RX2 fr lo) (K : ZCap Γ l (ΘC D ds ad) nL mc0 ms0) {o : Nat} (ho : isSy o) (d : decode cc pc = .ok (.getfield 32, 3)) (h : Z Γ k n σ xs (pc + 3) lv (.int (iz (σ o 6)) :: st)) : Z Γ k n σ xs pc lv (.ref (ad o) :: st) := z_getN' (C := RX5) (T := TX5) (N0 := 11) (ref := RX5) (host := "MatrixPress") (kd := 0) X K in_X5 o (isSy_75 ho) (LC_sy ho) rfl 6 (Nat.le_of_ble_eq_true rfl) q301 (fun _ h => h) rfl d h
theorem pC_X2_35_X2 {Γ : ZG} {cc : ByteArray} {fr lo nL mc0 ms0 k n pc : Nat} {σ : ZS} {xs : va_W} {lv : List (Nat × Value)} {st : List Value} {l : Launch} {D : va_G} {ds : Nat → ClassId} {ad : Nat → Nat} {v : Int} (X : ZX Γ cc RX2 fr lo) (K : ZCap Γ l (ΘC D ds ad) nL mc0 ms0) (d : decode cc pc = .ok (.putfield 35, 3)) (h : ∀ σ', σ' = zst σ 32 3 v → Z Γ k n σ' xs (pc + 3) lv st) : Z Γ k n σ xs pc lv (.int (iz v) :: .ref (ad 32) :: st) := z_put' (C := RX2) (T := TX2) (N0 := 7) (ref := RX2) (kd := 0) (ty := .int) X K in_X2 tyX2 tyX2_ok nmX2 32 (Nat.le_of_ble_eq_true rfl) rfl rfl 3 (Nat.le_of_ble_eq_true rfl) q157 (fun _ h => h) rfl (by decide +kernel) rfl rfl rfl d h
theorem gC_X1_202_X5 {Γ : ZG} {cc : ByteArray} {fr lo nL mc0 ms0 k n pc : Nat} {σ : ZS} {xs : va_W} {lv : List (Nat × Value)} {st : List Value} {l : Launch} {D : va_G} {ds : Nat → ClassId} {ad : Nat → Nat} (X : ZX Γ cc RX1 fr lo) (K : ZCap Γ l (ΘC D ds ad) nL mc0 ms0) {o : Nat} (ho : isSy o) (d : decode cc pc = .ok (.getfield 202, 3)) (h : Z Γ k n σ xs (pc + 3) lv (.int (iz (σ o 7)) :: st)) : Z Γ k n σ xs pc lv (.ref (ad o) :: st) := z_getN' (C := RX5) (T := TX5) (N0 := 11) (ref := RX5) (host := "MatrixPress") (kd := 0) X K in_X5 o (isSy_75 ho) (LC_sy ho) rfl 7 (Nat.le_of_ble_eq_true rfl) q304 (fun _ h => h) rfl d h
theorem gC_X1_207_X2 {Γ : ZG} {cc : ByteArray} {fr lo nL mc0 ms0 k n pc : Nat} {σ : ZS} {xs : va_W} {lv : List (Nat × Value)} {st : List Value} {l : Launch} {D : va_G} {ds : Nat → ClassId} {ad : Nat → Nat} (X : ZX Γ cc RX1 fr lo) (K : ZCap Γ l (ΘC D ds ad) nL mc0 ms0) (d : decode cc pc = .ok (.getfield 207, 3)) (h : Z Γ k n σ xs (pc + 3) lv (.int (iz (σ 32 5)) :: st)) : Z Γ k n σ xs pc lv (.ref (ad 32) :: st) := z_getN' (C := RX2) (T := TX2) (N0 := 7) (ref := RX2) (host := "MatrixPress") (kd := 0) X K in_X2 32 (Nat.le_of_ble_eq_true rfl) rfl rfl 5 (Nat.le_of_ble_eq_true rfl) q160 (fun _ h => h) rfl d h
theorem gC_X1_32_X1 {Γ : ZG} {cc : ByteArray} {fr lo nL mc0 ms0 k n pc : Nat} {σ : ZS} {xs : va_W} {lv : List (Nat × Value)} {st : List Value} {l : Launch} {D : va_G} {ds : Nat → ClassId} {ad : Nat → Nat} (X : ZX Γ cc RX1 fr lo) (K : ZCap Γ l (ΘC D ds ad) nL mc0 ms0) (d : decode cc pc = .ok (.getfield 32, 3)) (h : Z Γ k n σ xs (pc + 3) lv (.ref (ad 45) :: st)) : Z Γ k n σ xs pc lv (.ref (ad 0) :: st) := z_get' (C := RX1) (T := TX1) (N0 := 18) (ref := RX1) (kd := 47) X K in_X1 0 (Nat.le_of_ble_eq_true rfl) rfl rfl 3 (Nat.le_of_ble_eq_true rfl) q523 (fun _ h => h) rfl d h
theorem gC_X1_247_X4 {Γ : ZG} {cc : ByteArray} {fr lo nL mc0 ms0 k n pc : Nat} {σ : ZS} {xs : va_W} {lv : List (Nat × Value)} {st : List Value} {l : Launch} {D : va_G} {ds : Nat → ClassId} {ad : Nat → Nat} (X : ZX Γ cc RX1 fr lo) (K : ZCap Γ l (ΘC D ds ad) nL mc0 ms0) {o : Nat} (ho : isSt o) (d : decode cc pc = .ok (.getfield 247, 3)) (h : Z Γ k n σ xs (pc + 3) lv (.ref (ad (o + 2)) :: st)) : Z Γ k n σ xs pc lv (.ref (ad o) :: st) := by
  rcases ho with rfl | rfl
  · exact z_getN' (C := RX4) (T := TX4) (N0 := 5) (ref := RX4) (host := "MatrixPress") (kd := 49) X K in_X4 45 (Nat.le_of_ble_eq_true rfl) rfl rfl 1 (Nat.le_of_ble_eq_true rfl) q223 (fun _ h => h) rfl d h
  · exact z_getN' (C := RX4) (T := TX4) (N0 := 5) (ref := RX4) (host := "MatrixPress") (kd := 52) X K in_X4 48 (Nat.le_of_ble_eq_true rfl) rfl rfl 1 (Nat.le_of_ble_eq_true rfl) q223 (fun _ h => h) rfl d h
theorem gC_X1_44_X1 {Γ : ZG} {cc : ByteArray} {fr lo nL mc0 ms0 k n pc : Nat} {σ : ZS} {xs : va_W} {lv : List (Nat × Value)} {st : List Value} {l : Launch} {D : va_G} {ds : Nat → ClassId} {ad : Nat → Nat} (X : ZX Γ cc RX1 fr lo) (K : ZCap Γ l (ΘC D ds ad) nL mc0 ms0) (d : decode cc pc = .ok (.getfield 44, 3)) (h : Z Γ k n σ xs (pc + 3) lv (.ref (ad 51) :: st)) : Z Γ k n σ xs pc lv (.ref (ad 0) :: st) := z_get' (C := RX1) (T := TX1) (N0 := 18) (ref := RX1) (kd := 53) X K in_X1 0 (Nat.le_of_ble_eq_true rfl) rfl rfl 5 (Nat.le_of_ble_eq_true rfl) q525 (fun _ h => h) rfl d h
theorem gC_X1_241_X4 {Γ : ZG} {cc : ByteArray} {fr lo nL mc0 ms0 k n pc : Nat} {σ : ZS} {xs : va_W} {lv : List (Nat × Value)} {st : List Value} {l : Launch} {D : va_G} {ds : Nat → ClassId} {ad : Nat → Nat} (X : ZX Γ cc RX1 fr lo) (K : ZCap Γ l (ΘC D ds ad) nL mc0 ms0) {o : Nat} (ho : isSt o) (d : decode cc pc = .ok (.getfield 241, 3)) (h : Z Γ k n σ xs (pc + 3) lv (.int (iz (σ o 4)) :: st)) : Z Γ k n σ xs pc lv (.ref (ad o) :: st) := by
  rcases ho with rfl | rfl
  · exact z_getN' (C := RX4) (T := TX4) (N0 := 5) (ref := RX4) (host := "MatrixPress") (kd := 0) X K in_X4 45 (Nat.le_of_ble_eq_true rfl) rfl rfl 4 (Nat.le_of_ble_eq_true rfl) q230 (fun _ h => h) rfl d h
  · exact z_getN' (C := RX4) (T := TX4) (N0 := 5) (ref := RX4) (host := "MatrixPress") (kd := 0) X K in_X4 48 (Nat.le_of_ble_eq_true rfl) rfl rfl 4 (Nat.le_of_ble_eq_true rfl) q230 (fun _ h => h) rfl d h
theorem pC_X1_244_X1 {Γ : ZG} {cc : ByteArray} {fr lo nL mc0 ms0 k n pc : Nat} {σ : ZS} {xs : va_W} {lv : List (Nat × Value)} {st : List Value} {l : Launch} {D : va_G} {ds : Nat → ClassId} {ad : Nat → Nat} {v : Int} (X : ZX Γ cc RX1 fr lo) (K : ZCap Γ l (ΘC D ds ad) nL mc0 ms0) (d : decode cc pc = .ok (.putfield 244, 3)) (h : ∀ σ', σ' = zst σ 0 12 v → Z Γ k n σ' xs (pc + 3) lv st) : Z Γ k n σ xs pc lv (.int (iz v) :: .ref (ad 0) :: st) := z_put' (C := RX1) (T := TX1) (N0 := 18) (ref := RX1) (kd := 0) (ty := .int) X K in_X1 tyX1 tyX1_ok nmX1 0 (Nat.le_of_ble_eq_true rfl) rfl rfl 12 (Nat.le_of_ble_eq_true rfl) q532 (fun _ h => h) rfl (by decide +kernel) rfl rfl rfl d h
theorem gC_X1_141_X4 {Γ : ZG} {cc : ByteArray} {fr lo nL mc0 ms0 k n pc : Nat} {σ : ZS} {xs : va_W} {lv : List (Nat × Value)} {st : List Value} {l : Launch} {D : va_G} {ds : Nat → ClassId} {ad : Nat → Nat} (X : ZX Γ cc RX1 fr lo) (K : ZCap Γ l (ΘC D ds ad) nL mc0 ms0) {o : Nat} (ho : isSt o) (d : decode cc pc = .ok (.getfield 141, 3)) (h : Z Γ k n σ xs (pc + 3) lv (.ref (ad (o + 1)) :: st)) : Z Γ k n σ xs pc lv (.ref (ad o) :: st) := by
  rcases ho with rfl | rfl
  · exact z_getN' (C := RX4) (T := TX4) (N0 := 5) (ref := RX4) (host := "MatrixPress") (kd := 48) X K in_X4 45 (Nat.le_of_ble_eq_true rfl) rfl rfl 0 (Nat.le_of_ble_eq_true rfl) q221 (fun _ h => h) rfl d h
  · exact z_getN' (C := RX4) (T := TX4) (N0 := 5) (ref := RX4) (host := "MatrixPress") (kd := 51) X K in_X4 48 (Nat.le_of_ble_eq_true rfl) rfl rfl 0 (Nat.le_of_ble_eq_true rfl) q221 (fun _ h => h) rfl d h
theorem pC_X1_259_X1 {Γ : ZG} {cc : ByteArray} {fr lo nL mc0 ms0 k n pc : Nat} {σ : ZS} {xs : va_W} {lv : List (Nat × Value)} {st : List Value} {l : Launch} {D : va_G} {ds : Nat → ClassId} {ad : Nat → Nat} {v : Int} (X : ZX Γ cc RX1 fr lo) (K : ZCap Γ l (ΘC D ds ad) nL mc0 ms0) (d : decode cc pc = .ok (.putfield 259, 3)) (h : ∀ σ', σ' = zst σ 0 13 v → Z Γ k n σ' xs (pc + 3) lv st) : Z Γ k n σ xs pc lv (.int (iz v) :: .ref (ad 0) :: st) := z_put' (C := RX1) (T := TX1) (N0 := 18) (ref := RX1) (kd := 0) (ty := .int) X K in_X1 tyX1 tyX1_ok nmX1 0 (Nat.le_of_ble_eq_true rfl) rfl rfl 13 (Nat.le_of_ble_eq_true rfl) q533 (fun _ h => h) rfl (by decide +kernel) rfl rfl rfl d h
/- X2_corner -/
def wbc_X2_corner_2 (f : Int → Int) (post : ZS → Prop) (C2 : Int × ZS → Prop) : Int × ZS → Prop := fun (v2, σ) =>
  (InR v2) ∧
  ((16 ≤ v2 →
    post σ
  ) ∧
  (v2 < 16 →
    (0 ≤ v2 ∧ v2 < 16) ∧
    (0 ≤ (v2 + 1) ∧ (v2 + 1) < 16) ∧
    wc_X2_put (f v2) (f (v2 + 1)) σ (fun σ5 => 
    C2 (v2 + 2, σ5))
  ))
def wc_X2_corner (f : Int → Int) (σ : ZS) (post : ZS → Prop) : Prop :=
  ∃ N : Nat, zfix (wbc_X2_corner_2 f post) N (0, σ)
/- X2_lay -/
def wc_X2_lay_802 (q0 : Nat) (post : ZS → Prop) (t0 : Int) (c : Nat) (σ : ZS) : Prop :=
  (c ≤ 300) ∧
  (t0 = 0 ∨ t0 = 1) ∧
  ∀ σ1 : ZS, σ1 = zst σ 32 5 t0 →
  post σ1
def wc_X2_lay_755 (q0 : Nat) (C67 : Int × Int × Nat × ZS → Prop) (post : ZS → Prop) (v2 : Int) (v3 : Int) (c : Nat) (σ : ZS) : Prop :=
  (c ≤ 300) ∧
  (InR (v2 + 3)) ∧
  (InR (σ 32 2)) ∧
  (((v2 + 3) < (σ 32 2) →
    C67 (v2 + 3, v3 + 1, c, σ)
  ) ∧
  ((σ 32 2) ≤ (v2 + 3) →
    (InR (v3 + 1)) ∧
    (InR (σ 32 3)) ∧
    (((v3 + 1) < (σ 32 3) →
      C67 (v2 + 3, v3 + 1, c, σ)
    ) ∧
    ((σ 32 3) ≤ (v3 + 1) →
      (0 ≤ (((σ 32 2) * (σ 32 3)) - 1) ∧ (((σ 32 2) * (σ 32 3)) - 1) < 20736) ∧
      (InR (σ 34 (((σ 32 2) * (σ 32 3)) - 1))) ∧
      ((¬ (σ 34 (((σ 32 2) * (σ 32 3)) - 1)) = 0 →
        wc_X2_lay_802 q0 post 0 c σ
      ) ∧
      ((σ 34 (((σ 32 2) * (σ 32 3)) - 1)) = 0 →
        wc_X2_lay_802 q0 post 1 c σ
      ))
    ))
  ))
def wc_X2_lay_737 (q0 : Nat) (C67 : Int × Int × Nat × ZS → Prop) (C703 : Int × Int × Nat × ZS → Prop) (post : ZS → Prop) (v2 : Int) (v3 : Int) (c : Nat) (σ : ZS) : Prop :=
  (c ≤ 300) ∧
  (InR (v2 + 2)) ∧
  (InR (σ 32 2)) ∧
  (((σ 32 2) ≤ (v2 + 2) →
    wc_X2_lay_755 q0 C67 post (v2 + 2) (v3 + (-2)) c σ
  ) ∧
  ((v2 + 2) < (σ 32 2) →
    (InR (v3 + (-2))) ∧
    ((0 ≤ (v3 + (-2)) →
      C703 (v2 + 2, v3 + (-2), c, σ)
    ) ∧
    ((v3 + (-2)) < 0 →
      wc_X2_lay_755 q0 C67 post (v2 + 2) (v3 + (-2)) c σ
    ))
  ))
def wbc_X2_lay_703 (q0 : Nat) (C67 : Int × Int × Nat × ZS → Prop) (post : ZS → Prop) (C703 : Int × Int × Nat × ZS → Prop) : Int × Int × Nat × ZS → Prop := fun (v2, v3, c, σ) =>
  (c ≤ 300) ∧
  (InR v2) ∧
  ((v2 < 0 →
    wc_X2_lay_737 q0 C67 C703 post v2 v3 c σ
  ) ∧
  (0 ≤ v2 →
    (InR v3) ∧
    (InR (σ 32 3)) ∧
    (((σ 32 3) ≤ v3 →
      wc_X2_lay_737 q0 C67 C703 post v2 v3 c σ
    ) ∧
    (v3 < (σ 32 3) →
      (0 ≤ ((v2 * (σ 32 3)) + v3) ∧ ((v2 * (σ 32 3)) + v3) < 20736) ∧
      (InR (σ 34 ((v2 * (σ 32 3)) + v3))) ∧
      ((¬ (σ 34 ((v2 * (σ 32 3)) + v3)) = 0 →
        wc_X2_lay_737 q0 C67 C703 post v2 v3 c σ
      ) ∧
      ((σ 34 ((v2 * (σ 32 3)) + v3)) = 0 →
        wc_X2_utah v2 v3 σ (fun σ9 => 
        wc_X2_lay_737 q0 C67 C703 post v2 v3 c σ9)
      ))
    ))
  ))
def wc_X2_lay_697 (q0 : Nat) (C67 : Int × Int × Nat × ZS → Prop) (post : ZS → Prop) (v2 : Int) (v3 : Int) (c : Nat) (σ : ZS) : Prop :=
  (c ≤ 300) ∧
  ∃ N : Nat, zfix (wbc_X2_lay_703 q0 C67 post) N (v2 + 1, v3 + 3, c, σ)
def wc_X2_lay_679 (q0 : Nat) (C67 : Int × Int × Nat × ZS → Prop) (C645 : Int × Int × Nat × ZS → Prop) (post : ZS → Prop) (v2 : Int) (v3 : Int) (c : Nat) (σ : ZS) : Prop :=
  (c ≤ 300) ∧
  (InR (v2 + (-2))) ∧
  (((v2 + (-2)) < 0 →
    wc_X2_lay_697 q0 C67 post (v2 + (-2)) (v3 + 2) c σ
  ) ∧
  (0 ≤ (v2 + (-2)) →
    (InR (v3 + 2)) ∧
    (InR (σ 32 3)) ∧
    (((v3 + 2) < (σ 32 3) →
      C645 (v2 + (-2), v3 + 2, c, σ)
    ) ∧
    ((σ 32 3) ≤ (v3 + 2) →
      wc_X2_lay_697 q0 C67 post (v2 + (-2)) (v3 + 2) c σ
    ))
  ))
def wbc_X2_lay_645 (q0 : Nat) (C67 : Int × Int × Nat × ZS → Prop) (post : ZS → Prop) (C645 : Int × Int × Nat × ZS → Prop) : Int × Int × Nat × ZS → Prop := fun (v2, v3, c, σ) =>
  (c ≤ 300) ∧
  (InR v2) ∧
  (InR (σ 32 2)) ∧
  (((σ 32 2) ≤ v2 →
    wc_X2_lay_679 q0 C67 C645 post v2 v3 c σ
  ) ∧
  (v2 < (σ 32 2) →
    (InR v3) ∧
    ((v3 < 0 →
      wc_X2_lay_679 q0 C67 C645 post v2 v3 c σ
    ) ∧
    (0 ≤ v3 →
      (0 ≤ ((v2 * (σ 32 3)) + v3) ∧ ((v2 * (σ 32 3)) + v3) < 20736) ∧
      (InR (σ 34 ((v2 * (σ 32 3)) + v3))) ∧
      ((¬ (σ 34 ((v2 * (σ 32 3)) + v3)) = 0 →
        wc_X2_lay_679 q0 C67 C645 post v2 v3 c σ
      ) ∧
      ((σ 34 ((v2 * (σ 32 3)) + v3)) = 0 →
        wc_X2_utah v2 v3 σ (fun σ9 => 
        wc_X2_lay_679 q0 C67 C645 post v2 v3 c σ9)
      ))
    ))
  ))
def wc_X2_lay_493 (q0 : Nat) (C67 : Int × Int × Nat × ZS → Prop) (post : ZS → Prop) (v2 : Int) (v3 : Int) (c : Nat) (σ : ZS) : Prop :=
  (c ≤ 300) ∧
  (InR v2) ∧
  (InR ((σ 32 2) + 4)) ∧
  ((¬ v2 = ((σ 32 2) + 4) →
    ∃ N : Nat, zfix (wbc_X2_lay_645 q0 C67 post) N (v2, v3, c, σ)
  ) ∧
  (v2 = ((σ 32 2) + 4) →
    (InR v3) ∧
    ((¬ v3 = 2 →
      ∃ N : Nat, zfix (wbc_X2_lay_645 q0 C67 post) N (v2, v3, c, σ)
    ) ∧
    (v3 = 2 →
      (InR (σ 32 3)) ∧
      (0 ≤ (σ 32 3)) ∧
      (InR ((σ 32 3) % 8)) ∧
      ((¬ ((σ 32 3) % 8) = 0 →
        ∃ N : Nat, zfix (wbc_X2_lay_645 q0 C67 post) N (v2, v3, c, σ)
      ) ∧
      (((σ 32 3) % 8) = 0 →
        (c + 1 ≤ 300) ∧
        ∀ f13 : Int → Int, f13 0 = ((σ 32 2) - 1) → f13 1 = 0 → f13 2 = ((σ 32 2) - 1) → f13 3 = ((σ 32 3) - 1) → f13 4 = 0 → f13 5 = ((σ 32 3) - 3) → f13 6 = 0 → f13 7 = ((σ 32 3) - 2) → f13 8 = 0 → f13 9 = ((σ 32 3) - 1) → f13 10 = 1 → f13 11 = ((σ 32 3) - 3) → f13 12 = 1 → f13 13 = ((σ 32 3) - 2) → f13 14 = 1 → f13 15 = ((σ 32 3) - 1) →
        wc_X2_corner f13 σ (fun σ12 => 
        ∃ N : Nat, zfix (wbc_X2_lay_645 q0 C67 post) N (v2, v3, c + 1, σ12))
      ))
    ))
  ))
def wc_X2_lay_346 (q0 : Nat) (C67 : Int × Int × Nat × ZS → Prop) (post : ZS → Prop) (v2 : Int) (v3 : Int) (c : Nat) (σ : ZS) : Prop :=
  (c ≤ 300) ∧
  (InR v2) ∧
  (InR ((σ 32 2) - 2)) ∧
  ((¬ v2 = ((σ 32 2) - 2) →
    wc_X2_lay_493 q0 C67 post v2 v3 c σ
  ) ∧
  (v2 = ((σ 32 2) - 2) →
    (InR v3) ∧
    ((¬ v3 = 0 →
      wc_X2_lay_493 q0 C67 post v2 v3 c σ
    ) ∧
    (v3 = 0 →
      (InR (σ 32 3)) ∧
      (0 ≤ (σ 32 3)) ∧
      (InR ((σ 32 3) % 8)) ∧
      ((¬ ((σ 32 3) % 8) = 4 →
        wc_X2_lay_493 q0 C67 post v2 v3 c σ
      ) ∧
      (((σ 32 3) % 8) = 4 →
        (c + 1 ≤ 300) ∧
        ∀ f13 : Int → Int, f13 0 = ((σ 32 2) - 3) → f13 1 = 0 → f13 2 = ((σ 32 2) - 2) → f13 3 = 0 → f13 4 = ((σ 32 2) - 1) → f13 5 = 0 → f13 6 = 0 → f13 7 = ((σ 32 3) - 2) → f13 8 = 0 → f13 9 = ((σ 32 3) - 1) → f13 10 = 1 → f13 11 = ((σ 32 3) - 1) → f13 12 = 2 → f13 13 = ((σ 32 3) - 1) → f13 14 = 3 → f13 15 = ((σ 32 3) - 1) →
        wc_X2_corner f13 σ (fun σ12 => 
        wc_X2_lay_493 q0 C67 post v2 v3 (c + 1) σ12)
      ))
    ))
  ))
def wc_X2_lay_201 (q0 : Nat) (C67 : Int × Int × Nat × ZS → Prop) (post : ZS → Prop) (v2 : Int) (v3 : Int) (c : Nat) (σ : ZS) : Prop :=
  (c ≤ 300) ∧
  (InR v2) ∧
  (InR ((σ 32 2) - 2)) ∧
  ((¬ v2 = ((σ 32 2) - 2) →
    wc_X2_lay_346 q0 C67 post v2 v3 c σ
  ) ∧
  (v2 = ((σ 32 2) - 2) →
    (InR v3) ∧
    ((¬ v3 = 0 →
      wc_X2_lay_346 q0 C67 post v2 v3 c σ
    ) ∧
    (v3 = 0 →
      (InR (σ 32 3)) ∧
      (0 ≤ (σ 32 3)) ∧
      (InR ((σ 32 3) % 4)) ∧
      ((((σ 32 3) % 4) = 0 →
        wc_X2_lay_346 q0 C67 post v2 v3 c σ
      ) ∧
      (¬ ((σ 32 3) % 4) = 0 →
        (c + 1 ≤ 300) ∧
        ∀ f13 : Int → Int, f13 0 = ((σ 32 2) - 3) → f13 1 = 0 → f13 2 = ((σ 32 2) - 2) → f13 3 = 0 → f13 4 = ((σ 32 2) - 1) → f13 5 = 0 → f13 6 = 0 → f13 7 = ((σ 32 3) - 4) → f13 8 = 0 → f13 9 = ((σ 32 3) - 3) → f13 10 = 0 → f13 11 = ((σ 32 3) - 2) → f13 12 = 0 → f13 13 = ((σ 32 3) - 1) → f13 14 = 1 → f13 15 = ((σ 32 3) - 1) →
        wc_X2_corner f13 σ (fun σ12 => 
        wc_X2_lay_346 q0 C67 post v2 v3 (c + 1) σ12)
      ))
    ))
  ))
def wbc_X2_lay_67 (q0 : Nat) (post : ZS → Prop) (C67 : Int × Int × Nat × ZS → Prop) : Int × Int × Nat × ZS → Prop := fun (v2, v3, c, σ) =>
  (c ≤ 300) ∧
  (InR v2) ∧
  (InR (σ 32 2)) ∧
  ((¬ v2 = (σ 32 2) →
    wc_X2_lay_201 q0 C67 post v2 v3 c σ
  ) ∧
  (v2 = (σ 32 2) →
    (InR v3) ∧
    ((¬ v3 = 0 →
      wc_X2_lay_201 q0 C67 post v2 v3 c σ
    ) ∧
    (v3 = 0 →
      (c + 1 ≤ 300) ∧
      ∀ f9 : Int → Int, f9 0 = ((σ 32 2) - 1) → f9 1 = 0 → f9 2 = ((σ 32 2) - 1) → f9 3 = 1 → f9 4 = ((σ 32 2) - 1) → f9 5 = 2 → f9 6 = 0 → f9 7 = ((σ 32 3) - 2) → f9 8 = 0 → f9 9 = ((σ 32 3) - 1) → f9 10 = 1 → f9 11 = ((σ 32 3) - 1) → f9 12 = 2 → f9 13 = ((σ 32 3) - 1) → f9 14 = 3 → f9 15 = ((σ 32 3) - 1) →
      wc_X2_corner f9 σ (fun σ8 => 
      wc_X2_lay_201 q0 C67 post v2 v3 (c + 1) σ8)
    ))
  ))
def wbc_X2_lay_37 (q0 : Nat) (post : ZS → Prop) (C37 : Int × Nat × ZS → Prop) : Int × Nat × ZS → Prop := fun (v2, c, σ) =>
  (c ≤ 300) ∧
  (InR v2) ∧
  (InR ((σ 32 2) * (σ 32 3))) ∧
  ((((σ 32 2) * (σ 32 3)) ≤ v2 →
    ∃ N : Nat, zfix (wbc_X2_lay_67 q0 post) N (4, 0, c, σ)
  ) ∧
  (v2 < ((σ 32 2) * (σ 32 3)) →
    (0 ≤ v2 ∧ v2 < 20736) ∧
    ∀ σ5 : ZS, σ5 = zst σ 34 v2 0 →
    C37 (v2 + 1, c, σ5)
  ))
def wc_X2_lay (q0 : Nat) (σ : ZS) (post : ZS → Prop) : Prop :=
  (isSy q0) ∧
  ((σ 32 6) < 32) ∧
  ((¬ (σ 32 6) = (q0 : Nat) →
    ∀ σ3 : ZS, σ3 = zst σ 32 6 (q0 : Nat) →
    ∀ σ4 : ZS, σ4 = zst σ3 32 2 (σ3 q0 5) →
    ∀ σ5 : ZS, σ5 = zst σ4 32 3 (σ4 q0 6) →
    ∀ σ6 : ZS, σ6 = zst σ5 32 4 0 →
    ∃ N : Nat, zfix (wbc_X2_lay_37 q0 post) N (0, 0, σ6)
  ) ∧
  ((σ 32 6) = (q0 : Nat) →
    post σ
  ))
/- X1_draw -/
def wbc_X1_draw_81 (post : ZS → Prop) (C81 : Int × ZS → Prop) : Int × ZS → Prop := fun (v1, σ) =>
  (2 ≤ (σ 0 17) ∧ (σ 0 17) < 32) ∧
  (InR v1) ∧
  (InR (σ ((σ 0 17).toNat) 7)) ∧
  (((σ ((σ 0 17).toNat) 7) ≤ v1 →
    (InR (σ 32 5)) ∧
    ((¬ (σ 32 5) = 0 →
      ∀ v1_7 : Int, v1_7 = ((σ ((σ 0 17).toNat) 5) * (σ ((σ 0 17).toNat) 6)) - 1 →
      wc_X1_place v1_7 σ (fun r9 σ8 => 
      (0 ≤ r9 ∧ r9 < 20736) ∧
      ∀ σ11 : ZS, σ11 = zst σ8 73 r9 1 →
      (2 ≤ (σ11 0 17) ∧ (σ11 0 17) < 32) ∧
      wc_X1_place ((v1_7 - (σ11 ((σ11 0 17).toNat) 6)) - 1) σ11 (fun r14 σ13 => 
      (0 ≤ r14 ∧ r14 < 20736) ∧
      ∀ σ16 : ZS, σ16 = zst σ13 73 r14 1 →
      post σ16))
    ) ∧
    ((σ 32 5) = 0 →
      post σ
    ))
  ) ∧
  (v1 < (σ ((σ 0 17).toNat) 7) →
    (0 ≤ v1 ∧ v1 < 2178) ∧
    wc_X1_write v1 (σ 74 v1) σ (fun σ18 => 
    C81 (v1 + 1, σ18))
  ))
def wc_X1_draw_66 (C13 : Int × ZS → Prop) (C26 : Int × Int × ZS → Prop) (post : ZS → Prop) (v1 : Int) (v2 : Int) (t0 : Int) (t1 : Int) (σ : ZS) : Prop :=
  (0 ≤ t1 ∧ t1 < 20736) ∧
  (t0 = 0 ∨ t0 = 1) ∧
  ∀ σ2 : ZS, σ2 = zst σ 73 t1 t0 →
  C26 (v1, v2 + 1, σ2)
def wbc_X1_draw_26 (C13 : Int × ZS → Prop) (post : ZS → Prop) (C26 : Int × Int × ZS → Prop) : Int × Int × ZS → Prop := fun (v1, v2, σ) =>
  (2 ≤ (σ 0 17) ∧ (σ 0 17) < 32) ∧
  (InR v2) ∧
  (InR (σ ((σ 0 17).toNat) 2)) ∧
  (((σ ((σ 0 17).toNat) 2) ≤ v2 →
    C13 (v1 + 1, σ)
  ) ∧
  (v2 < (σ ((σ 0 17).toNat) 2) →
    wc_X5_border ((σ 0 17).toNat) v1 v2 σ (fun r6 σ5 => 
    (InR r6) ∧
    ((¬ r6 = 1 →
      wc_X1_draw_66 C13 C26 post v1 v2 0 ((v1 * 144) + v2) σ5
    ) ∧
    (r6 = 1 →
      wc_X1_draw_66 C13 C26 post v1 v2 1 ((v1 * 144) + v2) σ5
    )))
  ))
def wbc_X1_draw_13 (post : ZS → Prop) (C13 : Int × ZS → Prop) : Int × ZS → Prop := fun (v1, σ) =>
  (2 ≤ (σ 0 17) ∧ (σ 0 17) < 32) ∧
  (InR v1) ∧
  (InR (σ ((σ 0 17).toNat) 1)) ∧
  (((σ ((σ 0 17).toNat) 1) ≤ v1 →
    ∃ N : Nat, zfix (wbc_X1_draw_81 post) N (0, σ)
  ) ∧
  (v1 < (σ ((σ 0 17).toNat) 1) →
    ∃ N : Nat, zfix (wbc_X1_draw_26 C13 post) N (v1, 0, σ)
  ))
def wc_X1_draw (σ : ZS) (post : ZS → Prop) : Prop :=
  (2 ≤ (σ 0 17) ∧ (σ 0 17) < 32) ∧
  wc_X2_lay ((σ 0 17).toNat) σ (fun σ2 => 
  ∃ N : Nat, zfix (wbc_X1_draw_13 post) N (0, σ2))
/- X1_codeword -/
def wc_X1_codeword (a0 : Int) (σ : ZS) (post : Int → ZS → Prop) : Prop :=
  (((σ 0 17) < 0 →
    post (-1) σ
  ) ∧
  (0 ≤ (σ 0 17) →
    (InR a0) ∧
    ((a0 < 0 →
      post (-1) σ
    ) ∧
    (0 ≤ a0 →
      (2 ≤ (σ 0 17) ∧ (σ 0 17) < 32) ∧
      (InR (σ ((σ 0 17).toNat) 7)) ∧
      ((a0 < (σ ((σ 0 17).toNat) 7) →
        wc_X2_lay ((σ 0 17).toNat) σ (fun σ7 => 
        wc_X1_wordAt a0 σ7 (fun r9 σ8 => 
        post r9 σ8))
      ) ∧
      ((σ ((σ 0 17).toNat) 7) ≤ a0 →
        post (-1) σ
      ))
    ))
  ))
/- X1_set -/
def wc_X1_set (a0 : Int) (a1 : Int) (σ : ZS) (post : Int → ZS → Prop) : Prop :=
  (((σ 0 17) < 0 →
    post 0 σ
  ) ∧
  (0 ≤ (σ 0 17) →
    (InR a0) ∧
    ((a0 < 0 →
      post 0 σ
    ) ∧
    (0 ≤ a0 →
      (2 ≤ (σ 0 17) ∧ (σ 0 17) < 32) ∧
      (InR (σ ((σ 0 17).toNat) 7)) ∧
      ((a0 < (σ ((σ 0 17).toNat) 7) →
        wc_X2_lay ((σ 0 17).toNat) σ (fun σ7 => 
        wc_X1_write a0 a1 σ7 (fun σ8 => 
        post 1 σ8))
      ) ∧
      ((σ ((σ 0 17).toNat) 7) ≤ a0 →
        post 0 σ
      ))
    ))
  ))
/- X1_tells -/
def wbc_X1_tells_66 (post : Int → ZS → Prop) (C66 : Int × ZS → Prop) : Int × ZS → Prop := fun (v2, σ) =>
  (InR v2) ∧
  (InR (σ 0 12)) ∧
  (((σ 0 12) ≤ v2 →
    post 1 σ
  ) ∧
  (v2 < (σ 0 12) →
    (0 ≤ v2 ∧ v2 < 3200) ∧
    (-128 ≤ (σ 47 v2) ∧ (σ 47 v2) ≤ 127) ∧
    ∀ σ5 : ZS, σ5 = zst σ 72 v2 (σ 47 v2) →
    C66 (v2 + 1, σ5)
  ))
def wbc_X1_tells_10 (post : Int → ZS → Prop) (C10 : Int × Int × ZS → Prop) : Int × Int × ZS → Prop := fun (v1, v2, σ) =>
  (InR v2) ∧
  (InR v1) ∧
  ((v1 ≤ v2 →
    ((
      wc_X4_read σ (fun σ4 => 
      ∀ σ5 : ZS, σ5 = zst σ4 0 12 (σ4 45 4) →
      ∃ N : Nat, zfix (wbc_X1_tells_66 post) N (0, σ5))
    ) ∨
    (wx_X4_read σ (fun σx => post 0 σx)))
  ) ∧
  (v2 < v1 →
    (0 ≤ v2 ∧ v2 < 2178) ∧
    ∀ σ7 : ZS, σ7 = zst σ 46 v2 (σ 74 v2) →
    C10 (v1, v2 + 1, σ7)
  ))
def wc_X1_tells (a0 : Int) (σ : ZS) (post : Int → ZS → Prop) : Prop :=
  wc_X4_begin 45 a0 σ (fun σ1 => 
  ∃ N : Nat, zfix (wbc_X1_tells_10 post) N (a0, 0, σ1))
/- X1_stream -/
def wbc_X1_stream_36 (post : Int → ZS → Prop) (C36 : Int × Int × ZS → Prop) : Int × Int × ZS → Prop := fun (v2, v3, σ) =>
  (InR v3) ∧
  (InR v2) ∧
  ((v2 ≤ v3 →
    wc_X1_tells v2 σ (fun r5 σ4 => r5 = 0 ∨ r5 = 1 →
    ((r5 = 0 →
      post (-1) σ4
    ) ∧
    (¬ r5 = 0 →
      post (σ4 0 12) σ4
    )))
  ) ∧
  (v3 < v2 →
    (0 ≤ v3 ∧ v3 < 3200) ∧
    (0 ≤ v3 ∧ v3 < 2178) ∧
    ∀ σ9 : ZS, σ9 = zst σ 74 v3 ((σ 71 v3) % 256) →
    C36 (v2, v3 + 1, σ9)
  ))
def wc_X1_stream (a0 : Int) (σ : ZS) (post : Int → ZS → Prop) : Prop :=
  wc_X1_take σ (fun r2 σ1 => 
  (InR a0) ∧
  ((a0 < 0 →
    post (-3) σ1
  ) ∧
  (0 ≤ a0 →
    ((a0 < 30 →
      (0 ≤ a0 ∧ a0 < 30) ∧
      (InR r2) ∧
      (InR (σ1 (2 + a0.toNat) 9)) ∧
      ((r2 = (σ1 (2 + a0.toNat) 9) →
        ∃ N : Nat, zfix (wbc_X1_stream_36 post) N (r2, 0, σ1)
      ) ∧
      (¬ r2 = (σ1 (2 + a0.toNat) 9) →
        post (-2) σ1
      ))
    ) ∧
    (30 ≤ a0 →
      post (-3) σ1
    ))
  )))
/- X1_decode -/
def wbc_X1_decode_55 (post : Int → ZS → Prop) (C55 : Int × Int × ZS → Prop) : Int × Int × ZS → Prop := fun (v1, v2, σ) =>
  (2 ≤ (σ 0 17) ∧ (σ 0 17) < 32) ∧
  (InR v2) ∧
  (InR (σ ((σ 0 17).toNat) 10)) ∧
  (((σ ((σ 0 17).toNat) 10) ≤ v2 →
    wc_X1_tells (σ ((σ 0 17).toNat) 9) σ (fun r6 σ5 => r6 = 0 ∨ r6 = 1 →
    ((¬ r6 = 0 →
      ∀ σ8 : ZS, σ8 = zst σ5 0 13 v1 →
      post (σ8 0 12) σ8
    ) ∧
    (r6 = 0 →
      post (-2) σ5
    )))
  ) ∧
  (v2 < (σ ((σ 0 17).toNat) 10) →
    wc_X1_gathers ((σ 0 17).toNat) v2 σ (fun r10 σ9 => 
    (2 ≤ (σ9 0 17) ∧ (σ9 0 17) < 32) ∧
    wc_X5_checksOf ((σ9 0 17).toNat) σ9 (fun r13 σ12 => 
    wc_X3_mend r10 r13 σ12 (fun r15 σ14 => 
    (InR r15) ∧
    ((0 ≤ r15 →
      ∀ v1_18 : Int, v1_18 = v1 + r15 →
      (2 ≤ (σ14 0 17) ∧ (σ14 0 17) < 32) ∧
      wc_X1_spreads ((σ14 0 17).toNat) v2 r10 σ14 (fun σ20 => 
      C55 (v1_18, v2 + 1, σ20))
    ) ∧
    (r15 < 0 →
      post (-1) σ14
    )))))
  ))
def wbc_X1_decode_23 (post : Int → ZS → Prop) (C23 : Int × ZS → Prop) : Int × ZS → Prop := fun (v1, σ) =>
  (2 ≤ (σ 0 17) ∧ (σ 0 17) < 32) ∧
  (InR v1) ∧
  (InR (σ ((σ 0 17).toNat) 7)) ∧
  (((σ ((σ 0 17).toNat) 7) ≤ v1 →
    ∃ N : Nat, zfix (wbc_X1_decode_55 post) N (0, 0, σ)
  ) ∧
  (v1 < (σ ((σ 0 17).toNat) 7) →
    wc_X1_wordAt v1 σ (fun r6 σ5 => 
    (0 ≤ v1 ∧ v1 < 2178) ∧
    ∀ σ8 : ZS, σ8 = zst σ5 74 v1 r6 →
    C23 (v1 + 1, σ8))
  ))
def wc_X1_decode (σ : ZS) (post : Int → ZS → Prop) : Prop :=
  ((0 ≤ (σ 0 17) →
    (2 ≤ (σ 0 17) ∧ (σ 0 17) < 32) ∧
    wc_X2_lay ((σ 0 17).toNat) σ (fun σ3 => 
    ∃ N : Nat, zfix (wbc_X1_decode_23 post) N (0, σ3))
  ) ∧
  ((σ 0 17) < 0 →
    post (-3) σ
  ))
/- X2_corner -/
set_option maxRecDepth 100000 in
theorem wkc_X2_corner_2 {Γ : ZG} {l : Launch} {D : va_G} {ds : Nat → ClassId} {ad : Nat → Nat} {a : Nat} {f : Int → Int} {post : ZS → Prop} (X : ZX Γ cX2_corner RX2 3 46) (K : ZCap Γ l (ΘC D ds ad) 3 0 0) (hR : ZRetV Γ cX2_corner 0 0 post) : ∀ (N : Nat) (v2 : Int) (σ : ZS), zfix (wbc_X2_corner_2 f post) N (v2, σ) → Z Γ 0 0 σ (zAr ds a f) 2 [(0, .ref (ad 32)), (1, .ref a), (2, .int (iz v2))] [] := by
  intro N
  induction N with
  | zero => intro v2 σ h; exact False.elim h
  | succ N ih =>
    intro v2 σ h
    have h : wbc_X2_corner_2 f post (zfix (wbc_X2_corner_2 f post) N) (v2, σ) := h
    have hC2 := ih
    clear ih
    generalize zfix (wbc_X2_corner_2 f post) N = C2 at h hC2
    dsimp only [wbc_X2_corner_2] at h
    refine z_iload_n X 2 dX2_corner_2 rfl ?_
    refine z_aload_n X 1 dX2_corner_3 rfl ?_
    refine z_alenX X K dX2_corner_4 ?_
    obtain ⟨i1, h⟩ := h
    refine z_icmp_ge X 26 dX2_corner_5 rfl i1 (by decide) (fun c2 => ?_) (fun c2 => ?_)
    · have h := h.1 c2
      exact hR _ _ _ _ _ _ dX2_corner_26 (Nat.le_refl 0) (Nat.le_refl 0) h
    · have h := h.2 c2
      refine z_aload_n X 0 dX2_corner_8 rfl ?_
      refine z_aload_n X 1 dX2_corner_9 rfl ?_
      refine z_iload_n X 2 dX2_corner_10 rfl ?_
      obtain ⟨x3, h⟩ := h
      refine z_aldX X K x3 dX2_corner_11 ?_
      refine z_aload_n X 1 dX2_corner_12 rfl ?_
      refine z_iload_n X 2 dX2_corner_13 rfl ?_
      refine z_iconst X 1 dX2_corner_14 ?_
      refine z_iadd X dX2_corner_15 ?_
      obtain ⟨x4, h⟩ := h
      refine z_aldX X K x4 dX2_corner_16 ?_
      refine clc_X2_56 X K rfl h (Nat.le_of_ble_eq_true rfl) dX2_corner_17 ⟨Nat.zero_le _, Nat.zero_le _⟩ (fun σ5 h => ?_)
      refine z_iincK X K 2 (lv' := [(2, .int (iz (v2 + 2))), (0, .ref (ad 32)), (1, .ref a)]) dX2_corner_20 rfl rfl rfl ?_
      refine z_goto (tgt := 2) X dX2_corner_23 rfl ?_
      exact z_sub [1, 2, 0] rfl (hC2 _ _ h)
set_option maxRecDepth 100000 in
theorem mtc_X2_corner (l : Launch) (D : va_G) (ds : Nat → ClassId) (ad : Nat → Nat) (a : Nat) (f : Int → Int) (σ : ZS) (post : ZS → Prop) (h : wc_X2_corner f σ post) : ZMetA l (ΘC D ds ad) ds yX2_corner cX2_corner 3 3 46 a f [.ref (ad 32), .ref a] σ post := by
  refine ZMetA.of (by decide) (Nat.le_of_ble_eq_true rfl) (fun Γ X K hR => ?_)
  have X : ZX Γ cX2_corner RX2 3 46 := X
  refine z_sub [0, 1] (lv' := [(0, .ref (ad 32)), (1, .ref a)]) rfl ?_
  refine z_iconst X 0 dX2_corner_0 ?_
  refine z_istore_nK X K (lv' := [(2, .int (iz 0)), (0, .ref (ad 32)), (1, .ref a)]) dX2_corner_1 rfl rfl ?_
  obtain ⟨N, h⟩ := h
  exact z_sub [1, 2, 0] rfl (wkc_X2_corner_2 X K hR N _ _ h)
set_option maxRecDepth 100000 in
theorem clc_X2_41 {Γ : ZG} {cc : ByteArray} {fr lo nL mc0 ms0 k n pc : Nat} {lv : List (Nat × Value)} {st : List Value} {l : Launch} {D : va_G} {ds : Nat → ClassId} {ad : Nat → Nat} {a : Nat} {f : Int → Int} {σ : ZS} {post : ZS → Prop} (X : ZX Γ cc RX2 fr lo) (K : ZCap Γ l (ΘC D ds ad) nL mc0 ms0) (hrm : zroom 4 68 fr lo = true) (h : wc_X2_corner f σ post) (hst : (st.map fun v => v.category).sum ≤ 8) (d : decode cc pc = .ok (.invokevirtual 41, 3)) (hcs : k ≤ mc0 ∧ n ≤ ms0) (kk : ∀ (σ' : ZS), post σ' → Z Γ k n σ' [] (pc + 3) lv st) : Z Γ k n σ (zAr ds a f) pc lv (.ref a :: .ref (ad 32) :: st) :=
  z_callA' (C := RX2) (q0 := 32) X K (mtc_X2_corner l D ds ad a f σ post h) (Nat.le_of_ble_eq_true rfl) rfl rfl rfl (lw_V q941 q943 qs24 q109 q944) ⟨rfl, by decide, by decide, rfl⟩ (zroom_of (zroom_le hrm (by decide))) hcs hst d kk
/- X2_lay -/
theorem clc_X2_45 {Γ : ZG} {cc : ByteArray} {fr lo nL mc0 ms0 k n pc : Nat} {xs : va_W} {lv : List (Nat × Value)} {st : List Value} {l : Launch} {D : va_G} {ds : Nat → ClassId} {ad : Nat → Nat} {a0 : Int} {a1 : Int} {σ : ZS} {post : ZS → Prop} (X : ZX Γ cc RX2 fr lo) (K : ZCap Γ l (ΘC D ds ad) nL mc0 ms0) (hrm : zroom 5 92 fr lo = true) (h : wc_X2_utah a0 a1 σ post) (hst : (st.map fun v => v.category).sum ≤ 8) (d : decode cc pc = .ok (.invokevirtual 45, 3)) (hcs : k ≤ mc0 ∧ n ≤ ms0) (kk : ∀ (σ' : ZS), post σ' → Z Γ k n σ' xs (pc + 3) lv (st)) : Z Γ k n σ xs pc lv (.int (iz a1) :: .int (iz a0) :: .ref (ad 32) :: st) := 
  z_callVV' (C := RX2) (q0 := 32) X K (mtc_X2_utah l D ds ad a0 a1 σ post h) (Nat.le_of_ble_eq_true rfl) rfl rfl rfl (lw_V q949 q951 qs26 q109 q952) ⟨rfl, by decide, by decide, rfl⟩ (zroom_of (zroom_le hrm (by decide))) ⟨by rw [K.2.2.2.1]; exact hcs.1, by rw [K.2.2.2.2]; exact hcs.2⟩ hst d rfl kk
set_option maxRecDepth 100000 in
theorem wkc_X2_lay_802 {Γ : ZG} {l : Launch} {D : va_G} {ds : Nat → ClassId} {ad : Nat → Nat} {post : ZS → Prop} {q0 : Nat} (X : ZX Γ cX2_lay RX2 5 92) (K : ZCap Γ l (ΘC D ds ad) 4 300 4800) (hR : ZRetV Γ cX2_lay 300 4800 post) (hq0 : isSy q0) (t0 : Int) (c : Nat) (σ : ZS) (h : wc_X2_lay_802 q0 post t0 c σ) : Z Γ c (16 * c) σ [] 802 [] [.int (iz t0), .ref (ad 32)] := by
  obtain ⟨hc, h⟩ := h
  obtain ⟨b2, h⟩ := h
  refine pC_X2_49_X2 X K b2 dX2_lay_802 (fun σ1 eσ1 => ?_)
  have h := h σ1 eσ1
  exact hR _ _ _ _ _ _ dX2_lay_805 hc (zle16 hc) h
set_option maxRecDepth 100000 in
theorem wkc_X2_lay_755 {Γ : ZG} {l : Launch} {D : va_G} {ds : Nat → ClassId} {ad : Nat → Nat} {post : ZS → Prop} {q0 : Nat} (X : ZX Γ cX2_lay RX2 5 92) (K : ZCap Γ l (ΘC D ds ad) 4 300 4800) (hR : ZRetV Γ cX2_lay 300 4800 post) (hq0 : isSy q0) {C67 : Int × Int × Nat × ZS → Prop} (hC67 : ∀ (v2 : Int) (v3 : Int) (c : Nat) (σ : ZS), C67 (v2, v3, c, σ) → Z Γ c (16 * c) σ [] 67 [(0, .ref (ad 32)), (2, .int (iz v2)), (3, .int (iz v3))] []) (v2 : Int) (v3 : Int) (c : Nat) (σ : ZS) (h : wc_X2_lay_755 q0 C67 post v2 v3 c σ) : Z Γ c (16 * c) σ [] 755 [(0, .ref (ad 32)), (2, .int (iz v2)), (3, .int (iz v3))] [] := by
  obtain ⟨hc, h⟩ := h
  refine z_iincK X K 1 (lv' := [(2, .int (iz (v2 + 3))), (0, .ref (ad 32)), (3, .int (iz v3))]) dX2_lay_755 rfl rfl rfl ?_
  refine z_iincK X K 2 (lv' := [(3, .int (iz (v3 + 1))), (2, .int (iz (v2 + 3))), (0, .ref (ad 32))]) dX2_lay_758 rfl rfl rfl ?_
  refine z_iload_n X 1 dX2_lay_761 rfl ?_
  refine z_aload_n X 2 dX2_lay_762 rfl ?_
  refine gC_X2_29_X2 X K dX2_lay_763 ?_
  obtain ⟨i1, h⟩ := h
  obtain ⟨i2, h⟩ := h
  refine z_icmp_lt X 67 dX2_lay_766 rfl i1 i2 (fun c3 => ?_) (fun c3 => ?_)
  · have h := h.1 c3
    exact z_sub [2, 1, 0] rfl (hC67 _ _ _ _ h)
  · have h := h.2 c3
    refine z_iload_n X 0 dX2_lay_769 rfl ?_
    refine z_aload_n X 2 dX2_lay_770 rfl ?_
    refine gC_X2_35_X2 X K dX2_lay_771 ?_
    obtain ⟨i4, h⟩ := h
    obtain ⟨i5, h⟩ := h
    refine z_icmp_lt X 67 dX2_lay_774 rfl i4 i5 (fun c6 => ?_) (fun c6 => ?_)
    · have h := h.1 c6
      exact z_sub [2, 1, 0] rfl (hC67 _ _ _ _ h)
    · have h := h.2 c6
      refine z_aload_n X 2 dX2_lay_777 rfl ?_
      refine z_aload_n X 2 dX2_lay_778 rfl ?_
      refine gC_X2_15_X2 X K dX2_lay_779 ?_
      refine z_aload_n X 2 dX2_lay_782 rfl ?_
      refine gC_X2_29_X2 X K dX2_lay_783 ?_
      refine z_aload_n X 2 dX2_lay_786 rfl ?_
      refine gC_X2_35_X2 X K dX2_lay_787 ?_
      refine z_imul X dX2_lay_790 ?_
      refine z_iconst X 1 dX2_lay_791 ?_
      refine z_isub X dX2_lay_792 ?_
      obtain ⟨x7, h⟩ := h
      refine z_aldZ' X K 34 (Nat.le_of_ble_eq_true rfl) rfl rfl (Nat.le_of_ble_eq_true rfl) dX2_lay_793 x7 ?_
      obtain ⟨i8, h⟩ := h
      refine z_if_ne X 801 dX2_lay_794 rfl i8 (fun c9 => ?_) (fun c9 => ?_)
      · have h := h.1 c9
        refine z_iconst X 0 dX2_lay_801 ?_
        exact z_sub [] rfl (wkc_X2_lay_802 X K hR hq0 _ _ _ h)
      · have h := h.2 c9
        refine z_iconst X 1 dX2_lay_797 ?_
        refine z_goto (tgt := 802) X dX2_lay_798 rfl ?_
        exact z_sub [] rfl (wkc_X2_lay_802 X K hR hq0 _ _ _ h)
set_option maxRecDepth 100000 in
theorem wkc_X2_lay_737 {Γ : ZG} {l : Launch} {D : va_G} {ds : Nat → ClassId} {ad : Nat → Nat} {post : ZS → Prop} {q0 : Nat} (X : ZX Γ cX2_lay RX2 5 92) (K : ZCap Γ l (ΘC D ds ad) 4 300 4800) (hR : ZRetV Γ cX2_lay 300 4800 post) (hq0 : isSy q0) {C67 : Int × Int × Nat × ZS → Prop} (hC67 : ∀ (v2 : Int) (v3 : Int) (c : Nat) (σ : ZS), C67 (v2, v3, c, σ) → Z Γ c (16 * c) σ [] 67 [(0, .ref (ad 32)), (2, .int (iz v2)), (3, .int (iz v3))] []) {C703 : Int × Int × Nat × ZS → Prop} (hC703 : ∀ (v2 : Int) (v3 : Int) (c : Nat) (σ : ZS), C703 (v2, v3, c, σ) → Z Γ c (16 * c) σ [] 703 [(0, .ref (ad 32)), (2, .int (iz v2)), (3, .int (iz v3))] []) (v2 : Int) (v3 : Int) (c : Nat) (σ : ZS) (h : wc_X2_lay_737 q0 C67 C703 post v2 v3 c σ) : Z Γ c (16 * c) σ [] 737 [(0, .ref (ad 32)), (2, .int (iz v2)), (3, .int (iz v3))] [] := by
  obtain ⟨hc, h⟩ := h
  refine z_iincK X K 1 (lv' := [(2, .int (iz (v2 + 2))), (0, .ref (ad 32)), (3, .int (iz v3))]) dX2_lay_737 rfl rfl rfl ?_
  refine z_iincK X K 2 (lv' := [(3, .int (iz (v3 + (-2)))), (2, .int (iz (v2 + 2))), (0, .ref (ad 32))]) dX2_lay_740 rfl rfl rfl ?_
  refine z_iload_n X 1 dX2_lay_743 rfl ?_
  refine z_aload_n X 2 dX2_lay_744 rfl ?_
  refine gC_X2_29_X2 X K dX2_lay_745 ?_
  obtain ⟨i1, h⟩ := h
  obtain ⟨i2, h⟩ := h
  refine z_icmp_ge X 755 dX2_lay_748 rfl i1 i2 (fun c3 => ?_) (fun c3 => ?_)
  · have h := h.1 c3
    exact z_sub [2, 1, 0] rfl (wkc_X2_lay_755 X K hR hq0 hC67 _ _ _ _ h)
  · have h := h.2 c3
    refine z_iload_n X 0 dX2_lay_751 rfl ?_
    obtain ⟨i4, h⟩ := h
    refine z_if_ge X 703 dX2_lay_752 rfl i4 (fun c5 => ?_) (fun c5 => ?_)
    · have h := h.1 c5
      exact z_sub [2, 1, 0] rfl (hC703 _ _ _ _ h)
    · have h := h.2 c5
      exact z_sub [2, 1, 0] rfl (wkc_X2_lay_755 X K hR hq0 hC67 _ _ _ _ h)
set_option maxRecDepth 100000 in
theorem wkc_X2_lay_703 {Γ : ZG} {l : Launch} {D : va_G} {ds : Nat → ClassId} {ad : Nat → Nat} {post : ZS → Prop} {q0 : Nat} (X : ZX Γ cX2_lay RX2 5 92) (K : ZCap Γ l (ΘC D ds ad) 4 300 4800) (hR : ZRetV Γ cX2_lay 300 4800 post) (hq0 : isSy q0) {C67 : Int × Int × Nat × ZS → Prop} (hC67 : ∀ (v2 : Int) (v3 : Int) (c : Nat) (σ : ZS), C67 (v2, v3, c, σ) → Z Γ c (16 * c) σ [] 67 [(0, .ref (ad 32)), (2, .int (iz v2)), (3, .int (iz v3))] []) : ∀ (N : Nat) (v2 : Int) (v3 : Int) (c : Nat) (σ : ZS), zfix (wbc_X2_lay_703 q0 C67 post) N (v2, v3, c, σ) → Z Γ c (16 * c) σ [] 703 [(0, .ref (ad 32)), (2, .int (iz v2)), (3, .int (iz v3))] [] := by
  intro N
  induction N with
  | zero => intro v2 v3 c σ h; exact False.elim h
  | succ N ih =>
    intro v2 v3 c σ h
    have h : wbc_X2_lay_703 q0 C67 post (zfix (wbc_X2_lay_703 q0 C67 post) N) (v2, v3, c, σ) := h
    have hC703 := ih
    clear ih
    generalize zfix (wbc_X2_lay_703 q0 C67 post) N = C703 at h hC703
    dsimp only [wbc_X2_lay_703] at h
    obtain ⟨hc, h⟩ := h
    refine z_iload_n X 1 dX2_lay_703 rfl ?_
    obtain ⟨i1, h⟩ := h
    refine z_if_lt X 737 dX2_lay_704 rfl i1 (fun c2 => ?_) (fun c2 => ?_)
    · have h := h.1 c2
      exact z_sub [0, 1, 2] rfl (wkc_X2_lay_737 X K hR hq0 hC67 hC703 _ _ _ _ h)
    · have h := h.2 c2
      refine z_iload_n X 2 dX2_lay_707 rfl ?_
      refine z_aload_n X 0 dX2_lay_708 rfl ?_
      refine gC_X2_35_X2 X K dX2_lay_709 ?_
      obtain ⟨i3, h⟩ := h
      obtain ⟨i4, h⟩ := h
      refine z_icmp_ge X 737 dX2_lay_712 rfl i3 i4 (fun c5 => ?_) (fun c5 => ?_)
      · have h := h.1 c5
        exact z_sub [0, 1, 2] rfl (wkc_X2_lay_737 X K hR hq0 hC67 hC703 _ _ _ _ h)
      · have h := h.2 c5
        refine z_aload_n X 0 dX2_lay_715 rfl ?_
        refine gC_X2_15_X2 X K dX2_lay_716 ?_
        refine z_iload_n X 1 dX2_lay_719 rfl ?_
        refine z_aload_n X 0 dX2_lay_720 rfl ?_
        refine gC_X2_35_X2 X K dX2_lay_721 ?_
        refine z_imul X dX2_lay_724 ?_
        refine z_iload_n X 2 dX2_lay_725 rfl ?_
        refine z_iadd X dX2_lay_726 ?_
        obtain ⟨x6, h⟩ := h
        refine z_aldZ' X K 34 (Nat.le_of_ble_eq_true rfl) rfl rfl (Nat.le_of_ble_eq_true rfl) dX2_lay_727 x6 ?_
        obtain ⟨i7, h⟩ := h
        refine z_if_ne X 737 dX2_lay_728 rfl i7 (fun c8 => ?_) (fun c8 => ?_)
        · have h := h.1 c8
          exact z_sub [0, 1, 2] rfl (wkc_X2_lay_737 X K hR hq0 hC67 hC703 _ _ _ _ h)
        · have h := h.2 c8
          refine z_aload_n X 0 dX2_lay_731 rfl ?_
          refine z_iload_n X 1 dX2_lay_732 rfl ?_
          refine z_iload_n X 2 dX2_lay_733 rfl ?_
          refine clc_X2_45 X K rfl h (Nat.le_of_ble_eq_true rfl) dX2_lay_734 ⟨hc, zle16 hc⟩ (fun σ9 h => ?_)
          exact z_sub [0, 1, 2] rfl (wkc_X2_lay_737 X K hR hq0 hC67 hC703 _ _ _ _ h)
set_option maxRecDepth 100000 in
theorem wkc_X2_lay_697 {Γ : ZG} {l : Launch} {D : va_G} {ds : Nat → ClassId} {ad : Nat → Nat} {post : ZS → Prop} {q0 : Nat} (X : ZX Γ cX2_lay RX2 5 92) (K : ZCap Γ l (ΘC D ds ad) 4 300 4800) (hR : ZRetV Γ cX2_lay 300 4800 post) (hq0 : isSy q0) {C67 : Int × Int × Nat × ZS → Prop} (hC67 : ∀ (v2 : Int) (v3 : Int) (c : Nat) (σ : ZS), C67 (v2, v3, c, σ) → Z Γ c (16 * c) σ [] 67 [(0, .ref (ad 32)), (2, .int (iz v2)), (3, .int (iz v3))] []) (v2 : Int) (v3 : Int) (c : Nat) (σ : ZS) (h : wc_X2_lay_697 q0 C67 post v2 v3 c σ) : Z Γ c (16 * c) σ [] 697 [(0, .ref (ad 32)), (2, .int (iz v2)), (3, .int (iz v3))] [] := by
  obtain ⟨hc, h⟩ := h
  refine z_iincK X K 1 (lv' := [(2, .int (iz (v2 + 1))), (0, .ref (ad 32)), (3, .int (iz v3))]) dX2_lay_697 rfl rfl rfl ?_
  refine z_iincK X K 2 (lv' := [(3, .int (iz (v3 + 3))), (2, .int (iz (v2 + 1))), (0, .ref (ad 32))]) dX2_lay_700 rfl rfl rfl ?_
  obtain ⟨N, h⟩ := h
  exact z_sub [2, 1, 0] rfl (wkc_X2_lay_703 X K hR hq0 hC67 N _ _ _ _ h)
set_option maxRecDepth 100000 in
theorem wkc_X2_lay_679 {Γ : ZG} {l : Launch} {D : va_G} {ds : Nat → ClassId} {ad : Nat → Nat} {post : ZS → Prop} {q0 : Nat} (X : ZX Γ cX2_lay RX2 5 92) (K : ZCap Γ l (ΘC D ds ad) 4 300 4800) (hR : ZRetV Γ cX2_lay 300 4800 post) (hq0 : isSy q0) {C67 : Int × Int × Nat × ZS → Prop} (hC67 : ∀ (v2 : Int) (v3 : Int) (c : Nat) (σ : ZS), C67 (v2, v3, c, σ) → Z Γ c (16 * c) σ [] 67 [(0, .ref (ad 32)), (2, .int (iz v2)), (3, .int (iz v3))] []) {C645 : Int × Int × Nat × ZS → Prop} (hC645 : ∀ (v2 : Int) (v3 : Int) (c : Nat) (σ : ZS), C645 (v2, v3, c, σ) → Z Γ c (16 * c) σ [] 645 [(0, .ref (ad 32)), (2, .int (iz v2)), (3, .int (iz v3))] []) (v2 : Int) (v3 : Int) (c : Nat) (σ : ZS) (h : wc_X2_lay_679 q0 C67 C645 post v2 v3 c σ) : Z Γ c (16 * c) σ [] 679 [(0, .ref (ad 32)), (2, .int (iz v2)), (3, .int (iz v3))] [] := by
  obtain ⟨hc, h⟩ := h
  refine z_iincK X K 1 (lv' := [(2, .int (iz (v2 + (-2)))), (0, .ref (ad 32)), (3, .int (iz v3))]) dX2_lay_679 rfl rfl rfl ?_
  refine z_iincK X K 2 (lv' := [(3, .int (iz (v3 + 2))), (2, .int (iz (v2 + (-2)))), (0, .ref (ad 32))]) dX2_lay_682 rfl rfl rfl ?_
  refine z_iload_n X 1 dX2_lay_685 rfl ?_
  obtain ⟨i1, h⟩ := h
  refine z_if_lt X 697 dX2_lay_686 rfl i1 (fun c2 => ?_) (fun c2 => ?_)
  · have h := h.1 c2
    exact z_sub [2, 1, 0] rfl (wkc_X2_lay_697 X K hR hq0 hC67 _ _ _ _ h)
  · have h := h.2 c2
    refine z_iload_n X 0 dX2_lay_689 rfl ?_
    refine z_aload_n X 2 dX2_lay_690 rfl ?_
    refine gC_X2_35_X2 X K dX2_lay_691 ?_
    obtain ⟨i3, h⟩ := h
    obtain ⟨i4, h⟩ := h
    refine z_icmp_lt X 645 dX2_lay_694 rfl i3 i4 (fun c5 => ?_) (fun c5 => ?_)
    · have h := h.1 c5
      exact z_sub [2, 1, 0] rfl (hC645 _ _ _ _ h)
    · have h := h.2 c5
      exact z_sub [2, 1, 0] rfl (wkc_X2_lay_697 X K hR hq0 hC67 _ _ _ _ h)
set_option maxRecDepth 100000 in
theorem wkc_X2_lay_645 {Γ : ZG} {l : Launch} {D : va_G} {ds : Nat → ClassId} {ad : Nat → Nat} {post : ZS → Prop} {q0 : Nat} (X : ZX Γ cX2_lay RX2 5 92) (K : ZCap Γ l (ΘC D ds ad) 4 300 4800) (hR : ZRetV Γ cX2_lay 300 4800 post) (hq0 : isSy q0) {C67 : Int × Int × Nat × ZS → Prop} (hC67 : ∀ (v2 : Int) (v3 : Int) (c : Nat) (σ : ZS), C67 (v2, v3, c, σ) → Z Γ c (16 * c) σ [] 67 [(0, .ref (ad 32)), (2, .int (iz v2)), (3, .int (iz v3))] []) : ∀ (N : Nat) (v2 : Int) (v3 : Int) (c : Nat) (σ : ZS), zfix (wbc_X2_lay_645 q0 C67 post) N (v2, v3, c, σ) → Z Γ c (16 * c) σ [] 645 [(0, .ref (ad 32)), (2, .int (iz v2)), (3, .int (iz v3))] [] := by
  intro N
  induction N with
  | zero => intro v2 v3 c σ h; exact False.elim h
  | succ N ih =>
    intro v2 v3 c σ h
    have h : wbc_X2_lay_645 q0 C67 post (zfix (wbc_X2_lay_645 q0 C67 post) N) (v2, v3, c, σ) := h
    have hC645 := ih
    clear ih
    generalize zfix (wbc_X2_lay_645 q0 C67 post) N = C645 at h hC645
    dsimp only [wbc_X2_lay_645] at h
    obtain ⟨hc, h⟩ := h
    refine z_iload_n X 1 dX2_lay_645 rfl ?_
    refine z_aload_n X 0 dX2_lay_646 rfl ?_
    refine gC_X2_29_X2 X K dX2_lay_647 ?_
    obtain ⟨i1, h⟩ := h
    obtain ⟨i2, h⟩ := h
    refine z_icmp_ge X 679 dX2_lay_650 rfl i1 i2 (fun c3 => ?_) (fun c3 => ?_)
    · have h := h.1 c3
      exact z_sub [0, 1, 2] rfl (wkc_X2_lay_679 X K hR hq0 hC67 hC645 _ _ _ _ h)
    · have h := h.2 c3
      refine z_iload_n X 2 dX2_lay_653 rfl ?_
      obtain ⟨i4, h⟩ := h
      refine z_if_lt X 679 dX2_lay_654 rfl i4 (fun c5 => ?_) (fun c5 => ?_)
      · have h := h.1 c5
        exact z_sub [0, 1, 2] rfl (wkc_X2_lay_679 X K hR hq0 hC67 hC645 _ _ _ _ h)
      · have h := h.2 c5
        refine z_aload_n X 0 dX2_lay_657 rfl ?_
        refine gC_X2_15_X2 X K dX2_lay_658 ?_
        refine z_iload_n X 1 dX2_lay_661 rfl ?_
        refine z_aload_n X 0 dX2_lay_662 rfl ?_
        refine gC_X2_35_X2 X K dX2_lay_663 ?_
        refine z_imul X dX2_lay_666 ?_
        refine z_iload_n X 2 dX2_lay_667 rfl ?_
        refine z_iadd X dX2_lay_668 ?_
        obtain ⟨x6, h⟩ := h
        refine z_aldZ' X K 34 (Nat.le_of_ble_eq_true rfl) rfl rfl (Nat.le_of_ble_eq_true rfl) dX2_lay_669 x6 ?_
        obtain ⟨i7, h⟩ := h
        refine z_if_ne X 679 dX2_lay_670 rfl i7 (fun c8 => ?_) (fun c8 => ?_)
        · have h := h.1 c8
          exact z_sub [0, 1, 2] rfl (wkc_X2_lay_679 X K hR hq0 hC67 hC645 _ _ _ _ h)
        · have h := h.2 c8
          refine z_aload_n X 0 dX2_lay_673 rfl ?_
          refine z_iload_n X 1 dX2_lay_674 rfl ?_
          refine z_iload_n X 2 dX2_lay_675 rfl ?_
          refine clc_X2_45 X K rfl h (Nat.le_of_ble_eq_true rfl) dX2_lay_676 ⟨hc, zle16 hc⟩ (fun σ9 h => ?_)
          exact z_sub [0, 1, 2] rfl (wkc_X2_lay_679 X K hR hq0 hC67 hC645 _ _ _ _ h)
set_option maxRecDepth 100000 in
theorem wkc_X2_lay_493 {Γ : ZG} {l : Launch} {D : va_G} {ds : Nat → ClassId} {ad : Nat → Nat} {post : ZS → Prop} {q0 : Nat} (X : ZX Γ cX2_lay RX2 5 92) (K : ZCap Γ l (ΘC D ds ad) 4 300 4800) (hR : ZRetV Γ cX2_lay 300 4800 post) (hq0 : isSy q0) {C67 : Int × Int × Nat × ZS → Prop} (hC67 : ∀ (v2 : Int) (v3 : Int) (c : Nat) (σ : ZS), C67 (v2, v3, c, σ) → Z Γ c (16 * c) σ [] 67 [(0, .ref (ad 32)), (2, .int (iz v2)), (3, .int (iz v3))] []) (v2 : Int) (v3 : Int) (c : Nat) (σ : ZS) (h : wc_X2_lay_493 q0 C67 post v2 v3 c σ) : Z Γ c (16 * c) σ [] 493 [(0, .ref (ad 32)), (2, .int (iz v2)), (3, .int (iz v3))] [] := by
  obtain ⟨hc, h⟩ := h
  refine z_iload_n X 1 dX2_lay_493 rfl ?_
  refine z_aload_n X 0 dX2_lay_494 rfl ?_
  refine gC_X2_29_X2 X K dX2_lay_495 ?_
  refine z_iconst X 4 dX2_lay_498 ?_
  refine z_iadd X dX2_lay_499 ?_
  obtain ⟨i1, h⟩ := h
  obtain ⟨i2, h⟩ := h
  refine z_icmp_ne X 645 dX2_lay_500 rfl i1 i2 (fun c3 => ?_) (fun c3 => ?_)
  · have h := h.1 c3
    obtain ⟨N, h⟩ := h
    exact z_sub [0, 1, 2] rfl (wkc_X2_lay_645 X K hR hq0 hC67 N _ _ _ _ h)
  · have h := h.2 c3
    refine z_iload_n X 2 dX2_lay_503 rfl ?_
    refine z_iconst X 2 dX2_lay_504 ?_
    obtain ⟨i4, h⟩ := h
    refine z_icmp_ne X 645 dX2_lay_505 rfl i4 (by decide) (fun c5 => ?_) (fun c5 => ?_)
    · have h := h.1 c5
      obtain ⟨N, h⟩ := h
      exact z_sub [0, 1, 2] rfl (wkc_X2_lay_645 X K hR hq0 hC67 N _ _ _ _ h)
    · have h := h.2 c5
      refine z_aload_n X 0 dX2_lay_508 rfl ?_
      refine gC_X2_35_X2 X K dX2_lay_509 ?_
      refine z_bipush X 8 dX2_lay_512 rfl ?_
      obtain ⟨i6, h⟩ := h
      obtain ⟨g7, h⟩ := h
      refine z_irem X dX2_lay_514 ⟨i6, (by decide), g7, (by decide)⟩ ?_
      obtain ⟨i8, h⟩ := h
      refine z_if_ne X 645 dX2_lay_515 rfl i8 (fun c9 => ?_) (fun c9 => ?_)
      · have h := h.1 c9
        obtain ⟨N, h⟩ := h
        exact z_sub [0, 1, 2] rfl (wkc_X2_lay_645 X K hR hq0 hC67 N _ _ _ _ h)
      · have h := h.2 c9
        refine z_aload_n X 0 dX2_lay_518 rfl ?_
        refine z_bipush X 16 dX2_lay_519 rfl ?_
        obtain ⟨g10, h⟩ := h
        refine z_newI X K qArrI dX2_lay_521 ⟨g10, by omega⟩ (fun a11 => ?_)
        refine z_kn (k' := c + 1) (n' := 16 * (c + 1)) rfl (by omega) ?_
        refine z_dup X dX2_lay_523 rfl ?_
        refine z_iconst X 0 dX2_lay_524 ?_
        refine z_aload_n X 0 dX2_lay_525 rfl ?_
        refine gC_X2_29_X2 X K dX2_lay_526 ?_
        refine z_iconst X 1 dX2_lay_529 ?_
        refine z_isub X dX2_lay_530 ?_
        refine z_astX X K (by decide) dX2_lay_531 ?_
        refine z_dup X dX2_lay_532 rfl ?_
        refine z_iconst X 1 dX2_lay_533 ?_
        refine z_iconst X 0 dX2_lay_534 ?_
        refine z_astX X K (by decide) dX2_lay_535 ?_
        refine z_dup X dX2_lay_536 rfl ?_
        refine z_iconst X 2 dX2_lay_537 ?_
        refine z_aload_n X 0 dX2_lay_538 rfl ?_
        refine gC_X2_29_X2 X K dX2_lay_539 ?_
        refine z_iconst X 1 dX2_lay_542 ?_
        refine z_isub X dX2_lay_543 ?_
        refine z_astX X K (by decide) dX2_lay_544 ?_
        refine z_dup X dX2_lay_545 rfl ?_
        refine z_iconst X 3 dX2_lay_546 ?_
        refine z_aload_n X 0 dX2_lay_547 rfl ?_
        refine gC_X2_35_X2 X K dX2_lay_548 ?_
        refine z_iconst X 1 dX2_lay_551 ?_
        refine z_isub X dX2_lay_552 ?_
        refine z_astX X K (by decide) dX2_lay_553 ?_
        refine z_dup X dX2_lay_554 rfl ?_
        refine z_iconst X 4 dX2_lay_555 ?_
        refine z_iconst X 0 dX2_lay_556 ?_
        refine z_astX X K (by decide) dX2_lay_557 ?_
        refine z_dup X dX2_lay_558 rfl ?_
        refine z_iconst X 5 dX2_lay_559 ?_
        refine z_aload_n X 0 dX2_lay_560 rfl ?_
        refine gC_X2_35_X2 X K dX2_lay_561 ?_
        refine z_iconst X 3 dX2_lay_564 ?_
        refine z_isub X dX2_lay_565 ?_
        refine z_astX X K (by decide) dX2_lay_566 ?_
        refine z_dup X dX2_lay_567 rfl ?_
        refine z_bipush X 6 dX2_lay_568 rfl ?_
        refine z_iconst X 0 dX2_lay_570 ?_
        refine z_astX X K (by decide) dX2_lay_571 ?_
        refine z_dup X dX2_lay_572 rfl ?_
        refine z_bipush X 7 dX2_lay_573 rfl ?_
        refine z_aload_n X 0 dX2_lay_575 rfl ?_
        refine gC_X2_35_X2 X K dX2_lay_576 ?_
        refine z_iconst X 2 dX2_lay_579 ?_
        refine z_isub X dX2_lay_580 ?_
        refine z_astX X K (by decide) dX2_lay_581 ?_
        refine z_dup X dX2_lay_582 rfl ?_
        refine z_bipush X 8 dX2_lay_583 rfl ?_
        refine z_iconst X 0 dX2_lay_585 ?_
        refine z_astX X K (by decide) dX2_lay_586 ?_
        refine z_dup X dX2_lay_587 rfl ?_
        refine z_bipush X 9 dX2_lay_588 rfl ?_
        refine z_aload_n X 0 dX2_lay_590 rfl ?_
        refine gC_X2_35_X2 X K dX2_lay_591 ?_
        refine z_iconst X 1 dX2_lay_594 ?_
        refine z_isub X dX2_lay_595 ?_
        refine z_astX X K (by decide) dX2_lay_596 ?_
        refine z_dup X dX2_lay_597 rfl ?_
        refine z_bipush X 10 dX2_lay_598 rfl ?_
        refine z_iconst X 1 dX2_lay_600 ?_
        refine z_astX X K (by decide) dX2_lay_601 ?_
        refine z_dup X dX2_lay_602 rfl ?_
        refine z_bipush X 11 dX2_lay_603 rfl ?_
        refine z_aload_n X 0 dX2_lay_605 rfl ?_
        refine gC_X2_35_X2 X K dX2_lay_606 ?_
        refine z_iconst X 3 dX2_lay_609 ?_
        refine z_isub X dX2_lay_610 ?_
        refine z_astX X K (by decide) dX2_lay_611 ?_
        refine z_dup X dX2_lay_612 rfl ?_
        refine z_bipush X 12 dX2_lay_613 rfl ?_
        refine z_iconst X 1 dX2_lay_615 ?_
        refine z_astX X K (by decide) dX2_lay_616 ?_
        refine z_dup X dX2_lay_617 rfl ?_
        refine z_bipush X 13 dX2_lay_618 rfl ?_
        refine z_aload_n X 0 dX2_lay_620 rfl ?_
        refine gC_X2_35_X2 X K dX2_lay_621 ?_
        refine z_iconst X 2 dX2_lay_624 ?_
        refine z_isub X dX2_lay_625 ?_
        refine z_astX X K (by decide) dX2_lay_626 ?_
        refine z_dup X dX2_lay_627 rfl ?_
        refine z_bipush X 14 dX2_lay_628 rfl ?_
        refine z_iconst X 1 dX2_lay_630 ?_
        refine z_astX X K (by decide) dX2_lay_631 ?_
        refine z_dup X dX2_lay_632 rfl ?_
        refine z_bipush X 15 dX2_lay_633 rfl ?_
        refine z_aload_n X 0 dX2_lay_635 rfl ?_
        refine gC_X2_35_X2 X K dX2_lay_636 ?_
        refine z_iconst X 1 dX2_lay_639 ?_
        refine z_isub X dX2_lay_640 ?_
        refine z_astX X K (by decide) dX2_lay_641 ?_
        have h := h (fun j => if j = 15 then (σ 32 3) - 1 else (fun j => if j = 14 then 1 else (fun j => if j = 13 then (σ 32 3) - 2 else (fun j => if j = 12 then 1 else (fun j => if j = 11 then (σ 32 3) - 3 else (fun j => if j = 10 then 1 else (fun j => if j = 9 then (σ 32 3) - 1 else (fun j => if j = 8 then 0 else (fun j => if j = 7 then (σ 32 3) - 2 else (fun j => if j = 6 then 0 else (fun j => if j = 5 then (σ 32 3) - 3 else (fun j => if j = 4 then 0 else (fun j => if j = 3 then (σ 32 3) - 1 else (fun j => if j = 2 then (σ 32 2) - 1 else (fun j => if j = 1 then 0 else (fun j => if j = 0 then (σ 32 2) - 1 else (fun _ => 0) j) j) j) j) j) j) j) j) j) j) j) j) j) j) j) j) rfl rfl rfl rfl rfl rfl rfl rfl rfl rfl rfl rfl rfl rfl rfl rfl
        refine clc_X2_41 X K rfl h (Nat.le_of_ble_eq_true rfl) dX2_lay_642 ⟨g10, zle16 g10⟩ (fun σ12 h => ?_)
        obtain ⟨N, h⟩ := h
        exact z_sub [0, 1, 2] rfl (wkc_X2_lay_645 X K hR hq0 hC67 N _ _ _ _ h)
set_option maxRecDepth 100000 in
theorem wkc_X2_lay_346 {Γ : ZG} {l : Launch} {D : va_G} {ds : Nat → ClassId} {ad : Nat → Nat} {post : ZS → Prop} {q0 : Nat} (X : ZX Γ cX2_lay RX2 5 92) (K : ZCap Γ l (ΘC D ds ad) 4 300 4800) (hR : ZRetV Γ cX2_lay 300 4800 post) (hq0 : isSy q0) {C67 : Int × Int × Nat × ZS → Prop} (hC67 : ∀ (v2 : Int) (v3 : Int) (c : Nat) (σ : ZS), C67 (v2, v3, c, σ) → Z Γ c (16 * c) σ [] 67 [(0, .ref (ad 32)), (2, .int (iz v2)), (3, .int (iz v3))] []) (v2 : Int) (v3 : Int) (c : Nat) (σ : ZS) (h : wc_X2_lay_346 q0 C67 post v2 v3 c σ) : Z Γ c (16 * c) σ [] 346 [(0, .ref (ad 32)), (2, .int (iz v2)), (3, .int (iz v3))] [] := by
  obtain ⟨hc, h⟩ := h
  refine z_iload_n X 1 dX2_lay_346 rfl ?_
  refine z_aload_n X 0 dX2_lay_347 rfl ?_
  refine gC_X2_29_X2 X K dX2_lay_348 ?_
  refine z_iconst X 2 dX2_lay_351 ?_
  refine z_isub X dX2_lay_352 ?_
  obtain ⟨i1, h⟩ := h
  obtain ⟨i2, h⟩ := h
  refine z_icmp_ne X 493 dX2_lay_353 rfl i1 i2 (fun c3 => ?_) (fun c3 => ?_)
  · have h := h.1 c3
    exact z_sub [0, 1, 2] rfl (wkc_X2_lay_493 X K hR hq0 hC67 _ _ _ _ h)
  · have h := h.2 c3
    refine z_iload_n X 2 dX2_lay_356 rfl ?_
    obtain ⟨i4, h⟩ := h
    refine z_if_ne X 493 dX2_lay_357 rfl i4 (fun c5 => ?_) (fun c5 => ?_)
    · have h := h.1 c5
      exact z_sub [0, 1, 2] rfl (wkc_X2_lay_493 X K hR hq0 hC67 _ _ _ _ h)
    · have h := h.2 c5
      refine z_aload_n X 0 dX2_lay_360 rfl ?_
      refine gC_X2_35_X2 X K dX2_lay_361 ?_
      refine z_bipush X 8 dX2_lay_364 rfl ?_
      obtain ⟨i6, h⟩ := h
      obtain ⟨g7, h⟩ := h
      refine z_irem X dX2_lay_366 ⟨i6, (by decide), g7, (by decide)⟩ ?_
      refine z_iconst X 4 dX2_lay_367 ?_
      obtain ⟨i8, h⟩ := h
      refine z_icmp_ne X 493 dX2_lay_368 rfl i8 (by decide) (fun c9 => ?_) (fun c9 => ?_)
      · have h := h.1 c9
        exact z_sub [0, 1, 2] rfl (wkc_X2_lay_493 X K hR hq0 hC67 _ _ _ _ h)
      · have h := h.2 c9
        refine z_aload_n X 0 dX2_lay_371 rfl ?_
        refine z_bipush X 16 dX2_lay_372 rfl ?_
        obtain ⟨g10, h⟩ := h
        refine z_newI X K qArrI dX2_lay_374 ⟨g10, by omega⟩ (fun a11 => ?_)
        refine z_kn (k' := c + 1) (n' := 16 * (c + 1)) rfl (by omega) ?_
        refine z_dup X dX2_lay_376 rfl ?_
        refine z_iconst X 0 dX2_lay_377 ?_
        refine z_aload_n X 0 dX2_lay_378 rfl ?_
        refine gC_X2_29_X2 X K dX2_lay_379 ?_
        refine z_iconst X 3 dX2_lay_382 ?_
        refine z_isub X dX2_lay_383 ?_
        refine z_astX X K (by decide) dX2_lay_384 ?_
        refine z_dup X dX2_lay_385 rfl ?_
        refine z_iconst X 1 dX2_lay_386 ?_
        refine z_iconst X 0 dX2_lay_387 ?_
        refine z_astX X K (by decide) dX2_lay_388 ?_
        refine z_dup X dX2_lay_389 rfl ?_
        refine z_iconst X 2 dX2_lay_390 ?_
        refine z_aload_n X 0 dX2_lay_391 rfl ?_
        refine gC_X2_29_X2 X K dX2_lay_392 ?_
        refine z_iconst X 2 dX2_lay_395 ?_
        refine z_isub X dX2_lay_396 ?_
        refine z_astX X K (by decide) dX2_lay_397 ?_
        refine z_dup X dX2_lay_398 rfl ?_
        refine z_iconst X 3 dX2_lay_399 ?_
        refine z_iconst X 0 dX2_lay_400 ?_
        refine z_astX X K (by decide) dX2_lay_401 ?_
        refine z_dup X dX2_lay_402 rfl ?_
        refine z_iconst X 4 dX2_lay_403 ?_
        refine z_aload_n X 0 dX2_lay_404 rfl ?_
        refine gC_X2_29_X2 X K dX2_lay_405 ?_
        refine z_iconst X 1 dX2_lay_408 ?_
        refine z_isub X dX2_lay_409 ?_
        refine z_astX X K (by decide) dX2_lay_410 ?_
        refine z_dup X dX2_lay_411 rfl ?_
        refine z_iconst X 5 dX2_lay_412 ?_
        refine z_iconst X 0 dX2_lay_413 ?_
        refine z_astX X K (by decide) dX2_lay_414 ?_
        refine z_dup X dX2_lay_415 rfl ?_
        refine z_bipush X 6 dX2_lay_416 rfl ?_
        refine z_iconst X 0 dX2_lay_418 ?_
        refine z_astX X K (by decide) dX2_lay_419 ?_
        refine z_dup X dX2_lay_420 rfl ?_
        refine z_bipush X 7 dX2_lay_421 rfl ?_
        refine z_aload_n X 0 dX2_lay_423 rfl ?_
        refine gC_X2_35_X2 X K dX2_lay_424 ?_
        refine z_iconst X 2 dX2_lay_427 ?_
        refine z_isub X dX2_lay_428 ?_
        refine z_astX X K (by decide) dX2_lay_429 ?_
        refine z_dup X dX2_lay_430 rfl ?_
        refine z_bipush X 8 dX2_lay_431 rfl ?_
        refine z_iconst X 0 dX2_lay_433 ?_
        refine z_astX X K (by decide) dX2_lay_434 ?_
        refine z_dup X dX2_lay_435 rfl ?_
        refine z_bipush X 9 dX2_lay_436 rfl ?_
        refine z_aload_n X 0 dX2_lay_438 rfl ?_
        refine gC_X2_35_X2 X K dX2_lay_439 ?_
        refine z_iconst X 1 dX2_lay_442 ?_
        refine z_isub X dX2_lay_443 ?_
        refine z_astX X K (by decide) dX2_lay_444 ?_
        refine z_dup X dX2_lay_445 rfl ?_
        refine z_bipush X 10 dX2_lay_446 rfl ?_
        refine z_iconst X 1 dX2_lay_448 ?_
        refine z_astX X K (by decide) dX2_lay_449 ?_
        refine z_dup X dX2_lay_450 rfl ?_
        refine z_bipush X 11 dX2_lay_451 rfl ?_
        refine z_aload_n X 0 dX2_lay_453 rfl ?_
        refine gC_X2_35_X2 X K dX2_lay_454 ?_
        refine z_iconst X 1 dX2_lay_457 ?_
        refine z_isub X dX2_lay_458 ?_
        refine z_astX X K (by decide) dX2_lay_459 ?_
        refine z_dup X dX2_lay_460 rfl ?_
        refine z_bipush X 12 dX2_lay_461 rfl ?_
        refine z_iconst X 2 dX2_lay_463 ?_
        refine z_astX X K (by decide) dX2_lay_464 ?_
        refine z_dup X dX2_lay_465 rfl ?_
        refine z_bipush X 13 dX2_lay_466 rfl ?_
        refine z_aload_n X 0 dX2_lay_468 rfl ?_
        refine gC_X2_35_X2 X K dX2_lay_469 ?_
        refine z_iconst X 1 dX2_lay_472 ?_
        refine z_isub X dX2_lay_473 ?_
        refine z_astX X K (by decide) dX2_lay_474 ?_
        refine z_dup X dX2_lay_475 rfl ?_
        refine z_bipush X 14 dX2_lay_476 rfl ?_
        refine z_iconst X 3 dX2_lay_478 ?_
        refine z_astX X K (by decide) dX2_lay_479 ?_
        refine z_dup X dX2_lay_480 rfl ?_
        refine z_bipush X 15 dX2_lay_481 rfl ?_
        refine z_aload_n X 0 dX2_lay_483 rfl ?_
        refine gC_X2_35_X2 X K dX2_lay_484 ?_
        refine z_iconst X 1 dX2_lay_487 ?_
        refine z_isub X dX2_lay_488 ?_
        refine z_astX X K (by decide) dX2_lay_489 ?_
        have h := h (fun j => if j = 15 then (σ 32 3) - 1 else (fun j => if j = 14 then 3 else (fun j => if j = 13 then (σ 32 3) - 1 else (fun j => if j = 12 then 2 else (fun j => if j = 11 then (σ 32 3) - 1 else (fun j => if j = 10 then 1 else (fun j => if j = 9 then (σ 32 3) - 1 else (fun j => if j = 8 then 0 else (fun j => if j = 7 then (σ 32 3) - 2 else (fun j => if j = 6 then 0 else (fun j => if j = 5 then 0 else (fun j => if j = 4 then (σ 32 2) - 1 else (fun j => if j = 3 then 0 else (fun j => if j = 2 then (σ 32 2) - 2 else (fun j => if j = 1 then 0 else (fun j => if j = 0 then (σ 32 2) - 3 else (fun _ => 0) j) j) j) j) j) j) j) j) j) j) j) j) j) j) j) j) rfl rfl rfl rfl rfl rfl rfl rfl rfl rfl rfl rfl rfl rfl rfl rfl
        refine clc_X2_41 X K rfl h (Nat.le_of_ble_eq_true rfl) dX2_lay_490 ⟨g10, zle16 g10⟩ (fun σ12 h => ?_)
        exact z_sub [0, 1, 2] rfl (wkc_X2_lay_493 X K hR hq0 hC67 _ _ _ _ h)
set_option maxRecDepth 100000 in
theorem wkc_X2_lay_201 {Γ : ZG} {l : Launch} {D : va_G} {ds : Nat → ClassId} {ad : Nat → Nat} {post : ZS → Prop} {q0 : Nat} (X : ZX Γ cX2_lay RX2 5 92) (K : ZCap Γ l (ΘC D ds ad) 4 300 4800) (hR : ZRetV Γ cX2_lay 300 4800 post) (hq0 : isSy q0) {C67 : Int × Int × Nat × ZS → Prop} (hC67 : ∀ (v2 : Int) (v3 : Int) (c : Nat) (σ : ZS), C67 (v2, v3, c, σ) → Z Γ c (16 * c) σ [] 67 [(0, .ref (ad 32)), (2, .int (iz v2)), (3, .int (iz v3))] []) (v2 : Int) (v3 : Int) (c : Nat) (σ : ZS) (h : wc_X2_lay_201 q0 C67 post v2 v3 c σ) : Z Γ c (16 * c) σ [] 201 [(0, .ref (ad 32)), (2, .int (iz v2)), (3, .int (iz v3))] [] := by
  obtain ⟨hc, h⟩ := h
  refine z_iload_n X 1 dX2_lay_201 rfl ?_
  refine z_aload_n X 0 dX2_lay_202 rfl ?_
  refine gC_X2_29_X2 X K dX2_lay_203 ?_
  refine z_iconst X 2 dX2_lay_206 ?_
  refine z_isub X dX2_lay_207 ?_
  obtain ⟨i1, h⟩ := h
  obtain ⟨i2, h⟩ := h
  refine z_icmp_ne X 346 dX2_lay_208 rfl i1 i2 (fun c3 => ?_) (fun c3 => ?_)
  · have h := h.1 c3
    exact z_sub [0, 1, 2] rfl (wkc_X2_lay_346 X K hR hq0 hC67 _ _ _ _ h)
  · have h := h.2 c3
    refine z_iload_n X 2 dX2_lay_211 rfl ?_
    obtain ⟨i4, h⟩ := h
    refine z_if_ne X 346 dX2_lay_212 rfl i4 (fun c5 => ?_) (fun c5 => ?_)
    · have h := h.1 c5
      exact z_sub [0, 1, 2] rfl (wkc_X2_lay_346 X K hR hq0 hC67 _ _ _ _ h)
    · have h := h.2 c5
      refine z_aload_n X 0 dX2_lay_215 rfl ?_
      refine gC_X2_35_X2 X K dX2_lay_216 ?_
      refine z_iconst X 4 dX2_lay_219 ?_
      obtain ⟨i6, h⟩ := h
      obtain ⟨g7, h⟩ := h
      refine z_irem X dX2_lay_220 ⟨i6, (by decide), g7, (by decide)⟩ ?_
      obtain ⟨i8, h⟩ := h
      refine z_if_eq X 346 dX2_lay_221 rfl i8 (fun c9 => ?_) (fun c9 => ?_)
      · have h := h.1 c9
        exact z_sub [0, 1, 2] rfl (wkc_X2_lay_346 X K hR hq0 hC67 _ _ _ _ h)
      · have h := h.2 c9
        refine z_aload_n X 0 dX2_lay_224 rfl ?_
        refine z_bipush X 16 dX2_lay_225 rfl ?_
        obtain ⟨g10, h⟩ := h
        refine z_newI X K qArrI dX2_lay_227 ⟨g10, by omega⟩ (fun a11 => ?_)
        refine z_kn (k' := c + 1) (n' := 16 * (c + 1)) rfl (by omega) ?_
        refine z_dup X dX2_lay_229 rfl ?_
        refine z_iconst X 0 dX2_lay_230 ?_
        refine z_aload_n X 0 dX2_lay_231 rfl ?_
        refine gC_X2_29_X2 X K dX2_lay_232 ?_
        refine z_iconst X 3 dX2_lay_235 ?_
        refine z_isub X dX2_lay_236 ?_
        refine z_astX X K (by decide) dX2_lay_237 ?_
        refine z_dup X dX2_lay_238 rfl ?_
        refine z_iconst X 1 dX2_lay_239 ?_
        refine z_iconst X 0 dX2_lay_240 ?_
        refine z_astX X K (by decide) dX2_lay_241 ?_
        refine z_dup X dX2_lay_242 rfl ?_
        refine z_iconst X 2 dX2_lay_243 ?_
        refine z_aload_n X 0 dX2_lay_244 rfl ?_
        refine gC_X2_29_X2 X K dX2_lay_245 ?_
        refine z_iconst X 2 dX2_lay_248 ?_
        refine z_isub X dX2_lay_249 ?_
        refine z_astX X K (by decide) dX2_lay_250 ?_
        refine z_dup X dX2_lay_251 rfl ?_
        refine z_iconst X 3 dX2_lay_252 ?_
        refine z_iconst X 0 dX2_lay_253 ?_
        refine z_astX X K (by decide) dX2_lay_254 ?_
        refine z_dup X dX2_lay_255 rfl ?_
        refine z_iconst X 4 dX2_lay_256 ?_
        refine z_aload_n X 0 dX2_lay_257 rfl ?_
        refine gC_X2_29_X2 X K dX2_lay_258 ?_
        refine z_iconst X 1 dX2_lay_261 ?_
        refine z_isub X dX2_lay_262 ?_
        refine z_astX X K (by decide) dX2_lay_263 ?_
        refine z_dup X dX2_lay_264 rfl ?_
        refine z_iconst X 5 dX2_lay_265 ?_
        refine z_iconst X 0 dX2_lay_266 ?_
        refine z_astX X K (by decide) dX2_lay_267 ?_
        refine z_dup X dX2_lay_268 rfl ?_
        refine z_bipush X 6 dX2_lay_269 rfl ?_
        refine z_iconst X 0 dX2_lay_271 ?_
        refine z_astX X K (by decide) dX2_lay_272 ?_
        refine z_dup X dX2_lay_273 rfl ?_
        refine z_bipush X 7 dX2_lay_274 rfl ?_
        refine z_aload_n X 0 dX2_lay_276 rfl ?_
        refine gC_X2_35_X2 X K dX2_lay_277 ?_
        refine z_iconst X 4 dX2_lay_280 ?_
        refine z_isub X dX2_lay_281 ?_
        refine z_astX X K (by decide) dX2_lay_282 ?_
        refine z_dup X dX2_lay_283 rfl ?_
        refine z_bipush X 8 dX2_lay_284 rfl ?_
        refine z_iconst X 0 dX2_lay_286 ?_
        refine z_astX X K (by decide) dX2_lay_287 ?_
        refine z_dup X dX2_lay_288 rfl ?_
        refine z_bipush X 9 dX2_lay_289 rfl ?_
        refine z_aload_n X 0 dX2_lay_291 rfl ?_
        refine gC_X2_35_X2 X K dX2_lay_292 ?_
        refine z_iconst X 3 dX2_lay_295 ?_
        refine z_isub X dX2_lay_296 ?_
        refine z_astX X K (by decide) dX2_lay_297 ?_
        refine z_dup X dX2_lay_298 rfl ?_
        refine z_bipush X 10 dX2_lay_299 rfl ?_
        refine z_iconst X 0 dX2_lay_301 ?_
        refine z_astX X K (by decide) dX2_lay_302 ?_
        refine z_dup X dX2_lay_303 rfl ?_
        refine z_bipush X 11 dX2_lay_304 rfl ?_
        refine z_aload_n X 0 dX2_lay_306 rfl ?_
        refine gC_X2_35_X2 X K dX2_lay_307 ?_
        refine z_iconst X 2 dX2_lay_310 ?_
        refine z_isub X dX2_lay_311 ?_
        refine z_astX X K (by decide) dX2_lay_312 ?_
        refine z_dup X dX2_lay_313 rfl ?_
        refine z_bipush X 12 dX2_lay_314 rfl ?_
        refine z_iconst X 0 dX2_lay_316 ?_
        refine z_astX X K (by decide) dX2_lay_317 ?_
        refine z_dup X dX2_lay_318 rfl ?_
        refine z_bipush X 13 dX2_lay_319 rfl ?_
        refine z_aload_n X 0 dX2_lay_321 rfl ?_
        refine gC_X2_35_X2 X K dX2_lay_322 ?_
        refine z_iconst X 1 dX2_lay_325 ?_
        refine z_isub X dX2_lay_326 ?_
        refine z_astX X K (by decide) dX2_lay_327 ?_
        refine z_dup X dX2_lay_328 rfl ?_
        refine z_bipush X 14 dX2_lay_329 rfl ?_
        refine z_iconst X 1 dX2_lay_331 ?_
        refine z_astX X K (by decide) dX2_lay_332 ?_
        refine z_dup X dX2_lay_333 rfl ?_
        refine z_bipush X 15 dX2_lay_334 rfl ?_
        refine z_aload_n X 0 dX2_lay_336 rfl ?_
        refine gC_X2_35_X2 X K dX2_lay_337 ?_
        refine z_iconst X 1 dX2_lay_340 ?_
        refine z_isub X dX2_lay_341 ?_
        refine z_astX X K (by decide) dX2_lay_342 ?_
        have h := h (fun j => if j = 15 then (σ 32 3) - 1 else (fun j => if j = 14 then 1 else (fun j => if j = 13 then (σ 32 3) - 1 else (fun j => if j = 12 then 0 else (fun j => if j = 11 then (σ 32 3) - 2 else (fun j => if j = 10 then 0 else (fun j => if j = 9 then (σ 32 3) - 3 else (fun j => if j = 8 then 0 else (fun j => if j = 7 then (σ 32 3) - 4 else (fun j => if j = 6 then 0 else (fun j => if j = 5 then 0 else (fun j => if j = 4 then (σ 32 2) - 1 else (fun j => if j = 3 then 0 else (fun j => if j = 2 then (σ 32 2) - 2 else (fun j => if j = 1 then 0 else (fun j => if j = 0 then (σ 32 2) - 3 else (fun _ => 0) j) j) j) j) j) j) j) j) j) j) j) j) j) j) j) j) rfl rfl rfl rfl rfl rfl rfl rfl rfl rfl rfl rfl rfl rfl rfl rfl
        refine clc_X2_41 X K rfl h (Nat.le_of_ble_eq_true rfl) dX2_lay_343 ⟨g10, zle16 g10⟩ (fun σ12 h => ?_)
        exact z_sub [0, 1, 2] rfl (wkc_X2_lay_346 X K hR hq0 hC67 _ _ _ _ h)
set_option maxRecDepth 100000 in
theorem wkc_X2_lay_67 {Γ : ZG} {l : Launch} {D : va_G} {ds : Nat → ClassId} {ad : Nat → Nat} {post : ZS → Prop} {q0 : Nat} (X : ZX Γ cX2_lay RX2 5 92) (K : ZCap Γ l (ΘC D ds ad) 4 300 4800) (hR : ZRetV Γ cX2_lay 300 4800 post) (hq0 : isSy q0) : ∀ (N : Nat) (v2 : Int) (v3 : Int) (c : Nat) (σ : ZS), zfix (wbc_X2_lay_67 q0 post) N (v2, v3, c, σ) → Z Γ c (16 * c) σ [] 67 [(0, .ref (ad 32)), (2, .int (iz v2)), (3, .int (iz v3))] [] := by
  intro N
  induction N with
  | zero => intro v2 v3 c σ h; exact False.elim h
  | succ N ih =>
    intro v2 v3 c σ h
    have h : wbc_X2_lay_67 q0 post (zfix (wbc_X2_lay_67 q0 post) N) (v2, v3, c, σ) := h
    have hC67 := ih
    clear ih
    generalize zfix (wbc_X2_lay_67 q0 post) N = C67 at h hC67
    dsimp only [wbc_X2_lay_67] at h
    obtain ⟨hc, h⟩ := h
    refine z_iload_n X 1 dX2_lay_67 rfl ?_
    refine z_aload_n X 0 dX2_lay_68 rfl ?_
    refine gC_X2_29_X2 X K dX2_lay_69 ?_
    obtain ⟨i1, h⟩ := h
    obtain ⟨i2, h⟩ := h
    refine z_icmp_ne X 201 dX2_lay_72 rfl i1 i2 (fun c3 => ?_) (fun c3 => ?_)
    · have h := h.1 c3
      exact z_sub [0, 1, 2] rfl (wkc_X2_lay_201 X K hR hq0 hC67 _ _ _ _ h)
    · have h := h.2 c3
      refine z_iload_n X 2 dX2_lay_75 rfl ?_
      obtain ⟨i4, h⟩ := h
      refine z_if_ne X 201 dX2_lay_76 rfl i4 (fun c5 => ?_) (fun c5 => ?_)
      · have h := h.1 c5
        exact z_sub [0, 1, 2] rfl (wkc_X2_lay_201 X K hR hq0 hC67 _ _ _ _ h)
      · have h := h.2 c5
        refine z_aload_n X 0 dX2_lay_79 rfl ?_
        refine z_bipush X 16 dX2_lay_80 rfl ?_
        obtain ⟨g6, h⟩ := h
        refine z_newI X K qArrI dX2_lay_82 ⟨g6, by omega⟩ (fun a7 => ?_)
        refine z_kn (k' := c + 1) (n' := 16 * (c + 1)) rfl (by omega) ?_
        refine z_dup X dX2_lay_84 rfl ?_
        refine z_iconst X 0 dX2_lay_85 ?_
        refine z_aload_n X 0 dX2_lay_86 rfl ?_
        refine gC_X2_29_X2 X K dX2_lay_87 ?_
        refine z_iconst X 1 dX2_lay_90 ?_
        refine z_isub X dX2_lay_91 ?_
        refine z_astX X K (by decide) dX2_lay_92 ?_
        refine z_dup X dX2_lay_93 rfl ?_
        refine z_iconst X 1 dX2_lay_94 ?_
        refine z_iconst X 0 dX2_lay_95 ?_
        refine z_astX X K (by decide) dX2_lay_96 ?_
        refine z_dup X dX2_lay_97 rfl ?_
        refine z_iconst X 2 dX2_lay_98 ?_
        refine z_aload_n X 0 dX2_lay_99 rfl ?_
        refine gC_X2_29_X2 X K dX2_lay_100 ?_
        refine z_iconst X 1 dX2_lay_103 ?_
        refine z_isub X dX2_lay_104 ?_
        refine z_astX X K (by decide) dX2_lay_105 ?_
        refine z_dup X dX2_lay_106 rfl ?_
        refine z_iconst X 3 dX2_lay_107 ?_
        refine z_iconst X 1 dX2_lay_108 ?_
        refine z_astX X K (by decide) dX2_lay_109 ?_
        refine z_dup X dX2_lay_110 rfl ?_
        refine z_iconst X 4 dX2_lay_111 ?_
        refine z_aload_n X 0 dX2_lay_112 rfl ?_
        refine gC_X2_29_X2 X K dX2_lay_113 ?_
        refine z_iconst X 1 dX2_lay_116 ?_
        refine z_isub X dX2_lay_117 ?_
        refine z_astX X K (by decide) dX2_lay_118 ?_
        refine z_dup X dX2_lay_119 rfl ?_
        refine z_iconst X 5 dX2_lay_120 ?_
        refine z_iconst X 2 dX2_lay_121 ?_
        refine z_astX X K (by decide) dX2_lay_122 ?_
        refine z_dup X dX2_lay_123 rfl ?_
        refine z_bipush X 6 dX2_lay_124 rfl ?_
        refine z_iconst X 0 dX2_lay_126 ?_
        refine z_astX X K (by decide) dX2_lay_127 ?_
        refine z_dup X dX2_lay_128 rfl ?_
        refine z_bipush X 7 dX2_lay_129 rfl ?_
        refine z_aload_n X 0 dX2_lay_131 rfl ?_
        refine gC_X2_35_X2 X K dX2_lay_132 ?_
        refine z_iconst X 2 dX2_lay_135 ?_
        refine z_isub X dX2_lay_136 ?_
        refine z_astX X K (by decide) dX2_lay_137 ?_
        refine z_dup X dX2_lay_138 rfl ?_
        refine z_bipush X 8 dX2_lay_139 rfl ?_
        refine z_iconst X 0 dX2_lay_141 ?_
        refine z_astX X K (by decide) dX2_lay_142 ?_
        refine z_dup X dX2_lay_143 rfl ?_
        refine z_bipush X 9 dX2_lay_144 rfl ?_
        refine z_aload_n X 0 dX2_lay_146 rfl ?_
        refine gC_X2_35_X2 X K dX2_lay_147 ?_
        refine z_iconst X 1 dX2_lay_150 ?_
        refine z_isub X dX2_lay_151 ?_
        refine z_astX X K (by decide) dX2_lay_152 ?_
        refine z_dup X dX2_lay_153 rfl ?_
        refine z_bipush X 10 dX2_lay_154 rfl ?_
        refine z_iconst X 1 dX2_lay_156 ?_
        refine z_astX X K (by decide) dX2_lay_157 ?_
        refine z_dup X dX2_lay_158 rfl ?_
        refine z_bipush X 11 dX2_lay_159 rfl ?_
        refine z_aload_n X 0 dX2_lay_161 rfl ?_
        refine gC_X2_35_X2 X K dX2_lay_162 ?_
        refine z_iconst X 1 dX2_lay_165 ?_
        refine z_isub X dX2_lay_166 ?_
        refine z_astX X K (by decide) dX2_lay_167 ?_
        refine z_dup X dX2_lay_168 rfl ?_
        refine z_bipush X 12 dX2_lay_169 rfl ?_
        refine z_iconst X 2 dX2_lay_171 ?_
        refine z_astX X K (by decide) dX2_lay_172 ?_
        refine z_dup X dX2_lay_173 rfl ?_
        refine z_bipush X 13 dX2_lay_174 rfl ?_
        refine z_aload_n X 0 dX2_lay_176 rfl ?_
        refine gC_X2_35_X2 X K dX2_lay_177 ?_
        refine z_iconst X 1 dX2_lay_180 ?_
        refine z_isub X dX2_lay_181 ?_
        refine z_astX X K (by decide) dX2_lay_182 ?_
        refine z_dup X dX2_lay_183 rfl ?_
        refine z_bipush X 14 dX2_lay_184 rfl ?_
        refine z_iconst X 3 dX2_lay_186 ?_
        refine z_astX X K (by decide) dX2_lay_187 ?_
        refine z_dup X dX2_lay_188 rfl ?_
        refine z_bipush X 15 dX2_lay_189 rfl ?_
        refine z_aload_n X 0 dX2_lay_191 rfl ?_
        refine gC_X2_35_X2 X K dX2_lay_192 ?_
        refine z_iconst X 1 dX2_lay_195 ?_
        refine z_isub X dX2_lay_196 ?_
        refine z_astX X K (by decide) dX2_lay_197 ?_
        have h := h (fun j => if j = 15 then (σ 32 3) - 1 else (fun j => if j = 14 then 3 else (fun j => if j = 13 then (σ 32 3) - 1 else (fun j => if j = 12 then 2 else (fun j => if j = 11 then (σ 32 3) - 1 else (fun j => if j = 10 then 1 else (fun j => if j = 9 then (σ 32 3) - 1 else (fun j => if j = 8 then 0 else (fun j => if j = 7 then (σ 32 3) - 2 else (fun j => if j = 6 then 0 else (fun j => if j = 5 then 2 else (fun j => if j = 4 then (σ 32 2) - 1 else (fun j => if j = 3 then 1 else (fun j => if j = 2 then (σ 32 2) - 1 else (fun j => if j = 1 then 0 else (fun j => if j = 0 then (σ 32 2) - 1 else (fun _ => 0) j) j) j) j) j) j) j) j) j) j) j) j) j) j) j) j) rfl rfl rfl rfl rfl rfl rfl rfl rfl rfl rfl rfl rfl rfl rfl rfl
        refine clc_X2_41 X K rfl h (Nat.le_of_ble_eq_true rfl) dX2_lay_198 ⟨g6, zle16 g6⟩ (fun σ8 h => ?_)
        exact z_sub [0, 1, 2] rfl (wkc_X2_lay_201 X K hR hq0 hC67 _ _ _ _ h)
set_option maxRecDepth 100000 in
theorem wkc_X2_lay_37 {Γ : ZG} {l : Launch} {D : va_G} {ds : Nat → ClassId} {ad : Nat → Nat} {post : ZS → Prop} {q0 : Nat} (X : ZX Γ cX2_lay RX2 5 92) (K : ZCap Γ l (ΘC D ds ad) 4 300 4800) (hR : ZRetV Γ cX2_lay 300 4800 post) (hq0 : isSy q0) : ∀ (N : Nat) (v2 : Int) (c : Nat) (σ : ZS), zfix (wbc_X2_lay_37 q0 post) N (v2, c, σ) → Z Γ c (16 * c) σ [] 37 [(0, .ref (ad 32)), (2, .int (iz v2))] [] := by
  intro N
  induction N with
  | zero => intro v2 c σ h; exact False.elim h
  | succ N ih =>
    intro v2 c σ h
    have h : wbc_X2_lay_37 q0 post (zfix (wbc_X2_lay_37 q0 post) N) (v2, c, σ) := h
    have hC37 := ih
    clear ih
    generalize zfix (wbc_X2_lay_37 q0 post) N = C37 at h hC37
    dsimp only [wbc_X2_lay_37] at h
    obtain ⟨hc, h⟩ := h
    refine z_iload_n X 1 dX2_lay_37 rfl ?_
    refine z_aload_n X 0 dX2_lay_38 rfl ?_
    refine gC_X2_29_X2 X K dX2_lay_39 ?_
    refine z_aload_n X 0 dX2_lay_42 rfl ?_
    refine gC_X2_35_X2 X K dX2_lay_43 ?_
    refine z_imul X dX2_lay_46 ?_
    obtain ⟨i1, h⟩ := h
    obtain ⟨i2, h⟩ := h
    refine z_icmp_ge X 63 dX2_lay_47 rfl i1 i2 (fun c3 => ?_) (fun c3 => ?_)
    · have h := h.1 c3
      refine z_iconst X 4 dX2_lay_63 ?_
      refine z_istore_nK X K (lv' := [(2, .int (iz 4)), (0, .ref (ad 32))]) dX2_lay_64 rfl rfl ?_
      refine z_iconst X 0 dX2_lay_65 ?_
      refine z_istore_nK X K (lv' := [(3, .int (iz 0)), (2, .int (iz 4)), (0, .ref (ad 32))]) dX2_lay_66 rfl rfl ?_
      obtain ⟨N, h⟩ := h
      exact z_sub [2, 1, 0] rfl (wkc_X2_lay_67 X K hR hq0 N _ _ _ _ h)
    · have h := h.2 c3
      refine z_aload_n X 0 dX2_lay_50 rfl ?_
      refine gC_X2_15_X2 X K dX2_lay_51 ?_
      refine z_iload_n X 1 dX2_lay_54 rfl ?_
      refine z_iconst X 0 dX2_lay_55 ?_
      obtain ⟨x4, h⟩ := h
      refine z_astZ' X K 34 (Nat.le_of_ble_eq_true rfl) rfl rfl (Nat.le_of_ble_eq_true rfl) dX2_lay_56 x4 (Or.inl rfl) (fun σ5 eσ5 => ?_)
      have h := h σ5 eσ5
      refine z_iincK X K 1 (lv' := [(2, .int (iz (v2 + 1))), (0, .ref (ad 32))]) dX2_lay_57 rfl rfl rfl ?_
      refine z_goto (tgt := 37) X dX2_lay_60 rfl ?_
      exact z_sub [1, 0] rfl (hC37 _ _ _ h)
set_option maxRecDepth 100000 in
theorem mtc_X2_lay (l : Launch) (D : va_G) (ds : Nat → ClassId) (ad : Nat → Nat) (q0 : Nat) (σ : ZS) (post : ZS → Prop) (h : wc_X2_lay q0 σ post) : ZMetV l (ΘC D ds ad) yX2_lay cX2_lay 4 5 92 300 4800 [.ref (ad 32), .ref (ad q0)] σ post := by
  refine ZMetV.of (by decide) (Nat.le_of_ble_eq_true rfl) (fun Γ X K hR => ?_)
  have X : ZX Γ cX2_lay RX2 5 92 := X
  refine z_sub [0, 1] (lv' := [(0, .ref (ad 32)), (1, .ref (ad q0))]) rfl ?_
  obtain ⟨hq0, h⟩ := h
  refine z_aload_n X 0 dX2_lay_0 rfl ?_
  refine gC_X2_19_X2 X K dX2_lay_1 ?_
  refine z_aload_n X 1 dX2_lay_4 rfl ?_
  obtain ⟨x2, h⟩ := h
  refine z_acmp_neQ X K 9 dX2_lay_5 rfl (isSy_lt hq0) (lt75 x2) (fun c1 => ?_) (fun c1 => ?_)
  · have h := h.1 c1
    refine z_aload_n X 0 dX2_lay_9 rfl ?_
    refine z_aload_n X 1 dX2_lay_10 rfl ?_
    refine pC_X2_19_X2 X K dX2_lay_11 (fun σ3 eσ3 => ?_)
    have h := h σ3 eσ3
    refine z_aload_n X 0 dX2_lay_14 rfl ?_
    refine z_aload_n X 1 dX2_lay_15 rfl ?_
    refine gC_X2_23_X5 X K hq0 dX2_lay_16 ?_
    refine pC_X2_29_X2 X K dX2_lay_19 (fun σ4 eσ4 => ?_)
    have h := h σ4 eσ4
    refine z_aload_n X 0 dX2_lay_22 rfl ?_
    refine z_aload_n X 1 dX2_lay_23 rfl ?_
    refine gC_X2_32_X5 X K hq0 dX2_lay_24 ?_
    refine pC_X2_35_X2 X K dX2_lay_27 (fun σ5 eσ5 => ?_)
    have h := h σ5 eσ5
    refine z_aload_n X 0 dX2_lay_30 rfl ?_
    refine z_iconst X 0 dX2_lay_31 ?_
    refine pC_X2_38_X2 X K dX2_lay_32 (fun σ6 eσ6 => ?_)
    have h := h σ6 eσ6
    refine z_iconst X 0 dX2_lay_35 ?_
    refine z_istore_nK X K (lv' := [(2, .int (iz 0)), (0, .ref (ad 32)), (1, .ref (ad q0))]) dX2_lay_36 rfl rfl ?_
    obtain ⟨N, h⟩ := h
    exact z_sub [1, 0] rfl (wkc_X2_lay_37 X K hR hq0 N _ _ _ h)
  · have h := h.2 c1
    exact hR _ _ _ _ _ _ dX2_lay_8 (Nat.zero_le 300) (zle16 (Nat.zero_le 300)) h
/- X1_draw -/
theorem clc_X1_205 {Γ : ZG} {cc : ByteArray} {fr lo nL mc0 ms0 k n pc : Nat} {xs : va_W} {lv : List (Nat × Value)} {st : List Value} {l : Launch} {D : va_G} {ds : Nat → ClassId} {ad : Nat → Nat} {a0 : Int} {a1 : Int} {σ : ZS} {post : ZS → Prop} (X : ZX Γ cc RX1 fr lo) (K : ZCap Γ l (ΘC D ds ad) nL mc0 ms0) (hrm : zroom 5 89 fr lo = true) (h : wc_X1_write a0 a1 σ post) (hst : (st.map fun v => v.category).sum ≤ 8) (d : decode cc pc = .ok (.invokevirtual 205, 3)) (hcs : k ≤ mc0 ∧ n ≤ ms0) (kk : ∀ (σ' : ZS), post σ' → Z Γ k n σ' xs (pc + 3) lv (st)) : Z Γ k n σ xs pc lv (.int (iz a1) :: .int (iz a0) :: .ref (ad 0) :: st) := 
  z_callVV' (C := RX1) (q0 := 0) X K (mtc_X1_write l D ds ad a0 a1 σ post h) (Nat.le_of_ble_eq_true rfl) rfl rfl rfl (lw_V q961 q963 qs28 q108 q964) ⟨rfl, by decide, by decide, rfl⟩ (zroom_of (zroom_le hrm (by decide))) ⟨by rw [K.2.2.2.1]; exact hcs.1, by rw [K.2.2.2.2]; exact hcs.2⟩ hst d rfl kk
theorem clc_X1_198 {Γ : ZG} {cc : ByteArray} {fr lo nL mc0 ms0 k n pc : Nat} {xs : va_W} {lv : List (Nat × Value)} {st : List Value} {l : Launch} {D : va_G} {ds : Nat → ClassId} {ad : Nat → Nat} {a0 : Int} {a1 : Int} {σ : ZS} {post : Int → ZS → Prop} (X : ZX Γ cc RX1 fr lo) (K : ZCap Γ l (ΘC D ds ad) nL mc0 ms0) {o : Nat} (ho : isSy o) (hrm : zroom 3 50 fr lo = true) (h : wc_X5_border o a0 a1 σ post) (hst : (st.map fun v => v.category).sum ≤ 8) (d : decode cc pc = .ok (.invokevirtual 198, 3)) (hcs : k ≤ mc0 ∧ n ≤ ms0) (kk : ∀ (r : Int) (σ' : ZS), post r σ' → Z Γ k n σ' xs (pc + 3) lv (.int (iz r) :: st)) : Z Γ k n σ xs pc lv (.int (iz a1) :: .int (iz a0) :: .ref (ad o) :: st) := 
  z_callVI' (C := RX5) (q0 := o) X K (mtc_X5_border l D ds ad o a0 a1 σ post h) (isSy_75 ho) (LC_sy ho) rfl rfl (lw_V q957 q958 q959 q115 q960) ⟨rfl, by decide, by decide, rfl⟩ (zroom_of (zroom_le hrm (by decide))) ⟨by rw [K.2.2.2.1]; exact hcs.1, by rw [K.2.2.2.2]; exact hcs.2⟩ hst d rfl kk
theorem clc_X1_188 {Γ : ZG} {cc : ByteArray} {fr lo nL mc0 ms0 k n pc : Nat} {xs : va_W} {lv : List (Nat × Value)} {st : List Value} {l : Launch} {D : va_G} {ds : Nat → ClassId} {ad : Nat → Nat} {q0 : Nat} {σ : ZS} {post : ZS → Prop} (X : ZX Γ cc RX1 fr lo) (K : ZCap Γ l (ΘC D ds ad) nL mc0 ms0) (hrm : zroom 6 115 fr lo = true) (h : wc_X2_lay q0 σ post) (hst : (st.map fun v => v.category).sum ≤ 8) (d : decode cc pc = .ok (.invokevirtual 188, 3)) (hcs : k + 300 ≤ mc0 ∧ n + 4800 ≤ ms0) (kk : ∀ (σ' : ZS), post σ' → Z Γ (k + 300) (n + 4800) σ' xs (pc + 3) lv (st)) : Z Γ k n σ xs pc lv (.ref (ad q0) :: .ref (ad 32) :: st) := 
  z_callVV' (C := RX2) (q0 := 32) X K (mtc_X2_lay l D ds ad q0 σ post h) (Nat.le_of_ble_eq_true rfl) rfl rfl rfl (lw_V q937 q938 q939 q109 q940) ⟨rfl, by decide, by decide, rfl⟩ (zroom_of (zroom_le hrm (by decide))) ⟨by rw [K.2.2.2.1]; exact hcs.1, by rw [K.2.2.2.2]; exact hcs.2⟩ hst d rfl kk
set_option maxRecDepth 100000 in
theorem wkc_X1_draw_81 {Γ : ZG} {l : Launch} {D : va_G} {ds : Nat → ClassId} {ad : Nat → Nat} {post : ZS → Prop} (X : ZX Γ cX1_draw RX1 6 115) (K : ZCap Γ l (ΘC D ds ad) 3 300 4800) (hR : ZRetV Γ cX1_draw 300 4800 post) : ∀ (N : Nat) (v1 : Int) (σ : ZS), zfix (wbc_X1_draw_81 post) N (v1, σ) → Z Γ 300 4800 σ [] 81 [(0, .ref (ad 0)), (1, .int (iz v1))] [] := by
  intro N
  induction N with
  | zero => intro v1 σ h; exact False.elim h
  | succ N ih =>
    intro v1 σ h
    have h : wbc_X1_draw_81 post (zfix (wbc_X1_draw_81 post) N) (v1, σ) := h
    have hC81 := ih
    clear ih
    generalize zfix (wbc_X1_draw_81 post) N = C81 at h hC81
    dsimp only [wbc_X1_draw_81] at h
    refine z_iload_n X 1 dX1_draw_81 rfl ?_
    refine z_aload_n X 0 dX1_draw_82 rfl ?_
    obtain ⟨y1, h⟩ := h
    refine gC_X1_162_X1R X K y1 dX1_draw_83 ?_
    refine gC_X1_202_X5 X K (isSy_nn y1) dX1_draw_86 ?_
    obtain ⟨i2, h⟩ := h
    obtain ⟨i3, h⟩ := h
    refine z_icmp_ge X 109 dX1_draw_89 rfl i2 i3 (fun c4 => ?_) (fun c4 => ?_)
    · have h := h.1 c4
      refine z_aload_n X 0 dX1_draw_109 rfl ?_
      refine gC_X1_18_X1 X K dX1_draw_110 ?_
      refine gC_X1_207_X2 X K dX1_draw_113 ?_
      obtain ⟨i5, h⟩ := h
      refine z_if_ne X 120 dX1_draw_116 rfl i5 (fun c6 => ?_) (fun c6 => ?_)
      · have h := h.1 c6
        refine z_aload_n X 0 dX1_draw_120 rfl ?_
        refine gC_X1_162_X1R X K y1 dX1_draw_121 ?_
        refine gC_X1_210_X5 X K (isSy_nn y1) dX1_draw_124 ?_
        refine z_aload_n X 0 dX1_draw_127 rfl ?_
        refine gC_X1_162_X1R X K y1 dX1_draw_128 ?_
        refine gC_X1_179_X5 X K (isSy_nn y1) dX1_draw_131 ?_
        refine z_imul X dX1_draw_134 ?_
        refine z_iconst X 1 dX1_draw_135 ?_
        refine z_isub X dX1_draw_136 ?_
        refine z_topi (fun v1_7 ev1_7 => ?_)
        have h := h v1_7 ev1_7
        refine z_istore_nK X K (lv' := [(1, .int (iz v1_7)), (0, .ref (ad 0))]) dX1_draw_137 rfl rfl ?_
        refine z_aload_n X 1 dX1_draw_138 rfl ?_
        refine gC_X1_55_X1 X K dX1_draw_139 ?_
        refine z_aload_n X 1 dX1_draw_142 rfl ?_
        refine z_iload_n X 0 dX1_draw_143 rfl ?_
        refine clc_X1_213 X K rfl h (Nat.le_of_ble_eq_true rfl) dX1_draw_144 ⟨(Nat.le_of_ble_eq_true rfl), (Nat.le_of_ble_eq_true rfl)⟩ (fun r9 σ8 h => ?_)
        refine z_iconst X 1 dX1_draw_147 ?_
        obtain ⟨x10, h⟩ := h
        refine z_astZ' X K 73 (Nat.le_of_ble_eq_true rfl) rfl rfl (Nat.le_of_ble_eq_true rfl) dX1_draw_148 x10 (Or.inr rfl) (fun σ11 eσ11 => ?_)
        have h := h σ11 eσ11
        refine z_aload_n X 1 dX1_draw_149 rfl ?_
        refine gC_X1_55_X1 X K dX1_draw_150 ?_
        refine z_aload_n X 1 dX1_draw_153 rfl ?_
        refine z_iload_n X 0 dX1_draw_154 rfl ?_
        refine z_aload_n X 1 dX1_draw_155 rfl ?_
        obtain ⟨y12, h⟩ := h
        refine gC_X1_162_X1R X K y12 dX1_draw_156 ?_
        refine gC_X1_179_X5 X K (isSy_nn y12) dX1_draw_159 ?_
        refine z_isub X dX1_draw_162 ?_
        refine z_iconst X 1 dX1_draw_163 ?_
        refine z_isub X dX1_draw_164 ?_
        refine clc_X1_213 X K rfl h (Nat.le_of_ble_eq_true rfl) dX1_draw_165 ⟨(Nat.le_of_ble_eq_true rfl), (Nat.le_of_ble_eq_true rfl)⟩ (fun r14 σ13 h => ?_)
        refine z_iconst X 1 dX1_draw_168 ?_
        obtain ⟨x15, h⟩ := h
        refine z_astZ' X K 73 (Nat.le_of_ble_eq_true rfl) rfl rfl (Nat.le_of_ble_eq_true rfl) dX1_draw_169 x15 (Or.inr rfl) (fun σ16 eσ16 => ?_)
        have h := h σ16 eσ16
        exact hR _ _ _ _ _ _ dX1_draw_170 (Nat.le_of_ble_eq_true rfl) (Nat.le_of_ble_eq_true rfl) h
      · have h := h.2 c6
        exact hR _ _ _ _ _ _ dX1_draw_119 (Nat.le_of_ble_eq_true rfl) (Nat.le_of_ble_eq_true rfl) h
    · have h := h.2 c4
      refine z_aload_n X 0 dX1_draw_92 rfl ?_
      refine z_iload_n X 1 dX1_draw_93 rfl ?_
      refine z_aload_n X 0 dX1_draw_94 rfl ?_
      refine gC_X1_59_X1 X K dX1_draw_95 ?_
      refine z_iload_n X 1 dX1_draw_98 rfl ?_
      obtain ⟨x17, h⟩ := h
      refine z_ald' X K 74 (Nat.le_of_ble_eq_true rfl) rfl rfl (Nat.le_of_ble_eq_true rfl) dX1_draw_99 x17 ?_
      refine clc_X1_205 X K rfl h (Nat.le_of_ble_eq_true rfl) dX1_draw_100 ⟨(Nat.le_of_ble_eq_true rfl), (Nat.le_of_ble_eq_true rfl)⟩ (fun σ18 h => ?_)
      refine z_iincK X K 1 (lv' := [(1, .int (iz (v1 + 1))), (0, .ref (ad 0))]) dX1_draw_103 rfl rfl rfl ?_
      refine z_goto (tgt := 81) X dX1_draw_106 rfl ?_
      exact z_sub [1, 0] rfl (hC81 _ _ h)
set_option maxRecDepth 100000 in
theorem wkc_X1_draw_66 {Γ : ZG} {l : Launch} {D : va_G} {ds : Nat → ClassId} {ad : Nat → Nat} {post : ZS → Prop} (X : ZX Γ cX1_draw RX1 6 115) (K : ZCap Γ l (ΘC D ds ad) 3 300 4800) (hR : ZRetV Γ cX1_draw 300 4800 post) {C13 : Int × ZS → Prop} (hC13 : ∀ (v1 : Int) (σ : ZS), C13 (v1, σ) → Z Γ 300 4800 σ [] 13 [(0, .ref (ad 0)), (1, .int (iz v1))] []) {C26 : Int × Int × ZS → Prop} (hC26 : ∀ (v1 : Int) (v2 : Int) (σ : ZS), C26 (v1, v2, σ) → Z Γ 300 4800 σ [] 26 [(0, .ref (ad 0)), (1, .int (iz v1)), (2, .int (iz v2))] []) (v1 : Int) (v2 : Int) (t0 : Int) (t1 : Int) (σ : ZS) (h : wc_X1_draw_66 C13 C26 post v1 v2 t0 t1 σ) : Z Γ 300 4800 σ [] 66 [(0, .ref (ad 0)), (1, .int (iz v1)), (2, .int (iz v2))] [.int (iz t0), .int (iz t1), .ref (ad 73)] := by
  obtain ⟨x1, h⟩ := h
  obtain ⟨b3, h⟩ := h
  refine z_astZ' X K 73 (Nat.le_of_ble_eq_true rfl) rfl rfl (Nat.le_of_ble_eq_true rfl) dX1_draw_66 x1 b3 (fun σ2 eσ2 => ?_)
  have h := h σ2 eσ2
  refine z_iincK X K 2 (lv' := [(2, .int (iz (v2 + 1))), (0, .ref (ad 0)), (1, .int (iz v1))]) dX1_draw_67 rfl rfl rfl ?_
  refine z_goto (tgt := 26) X dX1_draw_70 rfl ?_
  exact z_sub [1, 2, 0] rfl (hC26 _ _ _ h)
set_option maxRecDepth 100000 in
theorem wkc_X1_draw_26 {Γ : ZG} {l : Launch} {D : va_G} {ds : Nat → ClassId} {ad : Nat → Nat} {post : ZS → Prop} (X : ZX Γ cX1_draw RX1 6 115) (K : ZCap Γ l (ΘC D ds ad) 3 300 4800) (hR : ZRetV Γ cX1_draw 300 4800 post) {C13 : Int × ZS → Prop} (hC13 : ∀ (v1 : Int) (σ : ZS), C13 (v1, σ) → Z Γ 300 4800 σ [] 13 [(0, .ref (ad 0)), (1, .int (iz v1))] []) : ∀ (N : Nat) (v1 : Int) (v2 : Int) (σ : ZS), zfix (wbc_X1_draw_26 C13 post) N (v1, v2, σ) → Z Γ 300 4800 σ [] 26 [(0, .ref (ad 0)), (1, .int (iz v1)), (2, .int (iz v2))] [] := by
  intro N
  induction N with
  | zero => intro v1 v2 σ h; exact False.elim h
  | succ N ih =>
    intro v1 v2 σ h
    have h : wbc_X1_draw_26 C13 post (zfix (wbc_X1_draw_26 C13 post) N) (v1, v2, σ) := h
    have hC26 := ih
    clear ih
    generalize zfix (wbc_X1_draw_26 C13 post) N = C26 at h hC26
    dsimp only [wbc_X1_draw_26] at h
    refine z_iload_n X 2 dX1_draw_26 rfl ?_
    refine z_aload_n X 0 dX1_draw_27 rfl ?_
    obtain ⟨y1, h⟩ := h
    refine gC_X1_162_X1R X K y1 dX1_draw_28 ?_
    refine gC_X1_195_X5 X K (isSy_nn y1) dX1_draw_31 ?_
    obtain ⟨i2, h⟩ := h
    obtain ⟨i3, h⟩ := h
    refine z_icmp_ge X 73 dX1_draw_34 rfl i2 i3 (fun c4 => ?_) (fun c4 => ?_)
    · have h := h.1 c4
      refine z_iincK X K 1 (lv' := [(1, .int (iz (v1 + 1))), (0, .ref (ad 0)), (2, .int (iz v2))]) dX1_draw_73 rfl rfl rfl ?_
      refine z_goto (tgt := 13) X dX1_draw_76 rfl ?_
      exact z_sub [1, 0] rfl (hC13 _ _ h)
    · have h := h.2 c4
      refine z_aload_n X 0 dX1_draw_37 rfl ?_
      refine gC_X1_55_X1 X K dX1_draw_38 ?_
      refine z_iload_n X 1 dX1_draw_41 rfl ?_
      refine z_sipush X 144 dX1_draw_42 rfl ?_
      refine z_imul X dX1_draw_45 ?_
      refine z_iload_n X 2 dX1_draw_46 rfl ?_
      refine z_iadd X dX1_draw_47 ?_
      refine z_aload_n X 0 dX1_draw_48 rfl ?_
      refine gC_X1_162_X1R X K y1 dX1_draw_49 ?_
      refine z_iload_n X 1 dX1_draw_52 rfl ?_
      refine z_iload_n X 2 dX1_draw_53 rfl ?_
      refine clc_X1_198 X K (isSy_nn y1) rfl h (Nat.le_of_ble_eq_true rfl) dX1_draw_54 ⟨(Nat.le_of_ble_eq_true rfl), (Nat.le_of_ble_eq_true rfl)⟩ (fun r6 σ5 h => ?_)
      refine z_iconst X 1 dX1_draw_57 ?_
      obtain ⟨i7, h⟩ := h
      refine z_icmp_ne X 65 dX1_draw_58 rfl i7 (by decide) (fun c8 => ?_) (fun c8 => ?_)
      · have h := h.1 c8
        refine z_iconst X 0 dX1_draw_65 ?_
        exact z_sub [0, 1, 2] rfl (wkc_X1_draw_66 X K hR hC13 hC26 _ _ _ _ _ h)
      · have h := h.2 c8
        refine z_iconst X 1 dX1_draw_61 ?_
        refine z_goto (tgt := 66) X dX1_draw_62 rfl ?_
        exact z_sub [0, 1, 2] rfl (wkc_X1_draw_66 X K hR hC13 hC26 _ _ _ _ _ h)
set_option maxRecDepth 100000 in
theorem wkc_X1_draw_13 {Γ : ZG} {l : Launch} {D : va_G} {ds : Nat → ClassId} {ad : Nat → Nat} {post : ZS → Prop} (X : ZX Γ cX1_draw RX1 6 115) (K : ZCap Γ l (ΘC D ds ad) 3 300 4800) (hR : ZRetV Γ cX1_draw 300 4800 post) : ∀ (N : Nat) (v1 : Int) (σ : ZS), zfix (wbc_X1_draw_13 post) N (v1, σ) → Z Γ 300 4800 σ [] 13 [(0, .ref (ad 0)), (1, .int (iz v1))] [] := by
  intro N
  induction N with
  | zero => intro v1 σ h; exact False.elim h
  | succ N ih =>
    intro v1 σ h
    have h : wbc_X1_draw_13 post (zfix (wbc_X1_draw_13 post) N) (v1, σ) := h
    have hC13 := ih
    clear ih
    generalize zfix (wbc_X1_draw_13 post) N = C13 at h hC13
    dsimp only [wbc_X1_draw_13] at h
    refine z_iload_n X 1 dX1_draw_13 rfl ?_
    refine z_aload_n X 0 dX1_draw_14 rfl ?_
    obtain ⟨y1, h⟩ := h
    refine gC_X1_162_X1R X K y1 dX1_draw_15 ?_
    refine gC_X1_192_X5 X K (isSy_nn y1) dX1_draw_18 ?_
    obtain ⟨i2, h⟩ := h
    obtain ⟨i3, h⟩ := h
    refine z_icmp_ge X 79 dX1_draw_21 rfl i2 i3 (fun c4 => ?_) (fun c4 => ?_)
    · have h := h.1 c4
      refine z_iconst X 0 dX1_draw_79 ?_
      refine z_istore_nK X K (lv' := [(1, .int (iz 0)), (0, .ref (ad 0))]) dX1_draw_80 rfl rfl ?_
      obtain ⟨N, h⟩ := h
      exact z_sub [1, 0] rfl (wkc_X1_draw_81 X K hR N _ _ h)
    · have h := h.2 c4
      refine z_iconst X 0 dX1_draw_24 ?_
      refine z_istore_nK X K (lv' := [(2, .int (iz 0)), (0, .ref (ad 0)), (1, .int (iz v1))]) dX1_draw_25 rfl rfl ?_
      obtain ⟨N, h⟩ := h
      exact z_sub [1, 2, 0] rfl (wkc_X1_draw_26 X K hR hC13 N _ _ _ h)
set_option maxRecDepth 100000 in
theorem mtc_X1_draw (l : Launch) (D : va_G) (ds : Nat → ClassId) (ad : Nat → Nat) (σ : ZS) (post : ZS → Prop) (h : wc_X1_draw  σ post) : ZMetV l (ΘC D ds ad) yX1_draw cX1_draw 3 6 115 300 4800 [.ref (ad 0)] σ post := by
  refine ZMetV.of (by decide) (Nat.le_of_ble_eq_true rfl) (fun Γ X K hR => ?_)
  have X : ZX Γ cX1_draw RX1 6 115 := X
  refine z_sub [0] (lv' := [(0, .ref (ad 0))]) rfl ?_
  refine z_aload_n X 0 dX1_draw_0 rfl ?_
  refine gC_X1_18_X1 X K dX1_draw_1 ?_
  refine z_aload_n X 0 dX1_draw_4 rfl ?_
  obtain ⟨y1, h⟩ := h
  refine gC_X1_162_X1R X K y1 dX1_draw_5 ?_
  refine clc_X1_188 X K rfl h (Nat.le_of_ble_eq_true rfl) dX1_draw_8 ⟨(Nat.le_of_ble_eq_true rfl), (Nat.le_of_ble_eq_true rfl)⟩ (fun σ2 h => ?_)
  refine z_iconst X 0 dX1_draw_11 ?_
  refine z_istore_nK X K (lv' := [(1, .int (iz 0)), (0, .ref (ad 0))]) dX1_draw_12 rfl rfl ?_
  obtain ⟨N, h⟩ := h
  exact z_sub [1, 0] rfl (wkc_X1_draw_13 X K hR N _ _ h)
/- X1_codeword -/
theorem clc_X1_253 {Γ : ZG} {cc : ByteArray} {fr lo nL mc0 ms0 k n pc : Nat} {xs : va_W} {lv : List (Nat × Value)} {st : List Value} {l : Launch} {D : va_G} {ds : Nat → ClassId} {ad : Nat → Nat} {a0 : Int} {σ : ZS} {post : Int → ZS → Prop} (X : ZX Γ cc RX1 fr lo) (K : ZCap Γ l (ΘC D ds ad) nL mc0 ms0) (hrm : zroom 5 89 fr lo = true) (h : wc_X1_wordAt a0 σ post) (hst : (st.map fun v => v.category).sum ≤ 8) (d : decode cc pc = .ok (.invokevirtual 253, 3)) (hcs : k ≤ mc0 ∧ n ≤ ms0) (kk : ∀ (r : Int) (σ' : ZS), post r σ' → Z Γ k n σ' xs (pc + 3) lv (.int (iz r) :: st)) : Z Γ k n σ xs pc lv (.int (iz a0) :: .ref (ad 0) :: st) := 
  z_callVI' (C := RX1) (q0 := 0) X K (mtc_X1_wordAt l D ds ad a0 σ post h) (Nat.le_of_ble_eq_true rfl) rfl rfl rfl (lw_V q1111 q1113 qs34 q108 q1114) ⟨rfl, by decide, by decide, rfl⟩ (zroom_of (zroom_le hrm (by decide))) ⟨by rw [K.2.2.2.1]; exact hcs.1, by rw [K.2.2.2.2]; exact hcs.2⟩ hst d rfl kk
set_option maxRecDepth 100000 in
theorem mtc_X1_codeword (l : Launch) (D : va_G) (ds : Nat → ClassId) (ad : Nat → Nat) (a0 : Int) (σ : ZS) (post : Int → ZS → Prop) (h : wc_X1_codeword a0 σ post) : ZMetI l (ΘC D ds ad) yX1_codeword cX1_codeword 2 .int 6 115 300 4800 [.ref (ad 0), .int (iz a0)] σ post := by
  refine ZMetI.of (by decide) (Nat.le_of_ble_eq_true rfl) (fun Γ X K hR => ?_)
  have X : ZX Γ cX1_codeword RX1 6 115 := X
  refine z_sub [0, 1] (lv' := [(0, .ref (ad 0)), (1, .int (iz a0))]) rfl ?_
  refine z_aload_n X 0 dX1_codeword_0 rfl ?_
  refine gC_X1_162_X1 X K dX1_codeword_1 ?_
  refine z_ifnullQ X 22 dX1_codeword_4 rfl (fun c1 => ?_) (fun c1 => ?_)
  · have h := h.1 c1
    refine z_iconst X (-1) dX1_codeword_22 ?_
    exact hR _ _ _ _ _ _ _ dX1_codeword_23 rfl (Nat.le_of_ble_eq_true rfl) (Nat.le_of_ble_eq_true rfl) h
  · have h := h.2 c1
    refine z_iload_n X 1 dX1_codeword_7 rfl ?_
    obtain ⟨i2, h⟩ := h
    refine z_if_lt X 22 dX1_codeword_8 rfl i2 (fun c3 => ?_) (fun c3 => ?_)
    · have h := h.1 c3
      refine z_iconst X (-1) dX1_codeword_22 ?_
      exact hR _ _ _ _ _ _ _ dX1_codeword_23 rfl (Nat.le_of_ble_eq_true rfl) (Nat.le_of_ble_eq_true rfl) h
    · have h := h.2 c3
      refine z_iload_n X 1 dX1_codeword_11 rfl ?_
      refine z_aload_n X 0 dX1_codeword_12 rfl ?_
      obtain ⟨y4, h⟩ := h
      refine gC_X1_162_X1R X K y4 dX1_codeword_13 ?_
      refine gC_X1_202_X5 X K (isSy_nn y4) dX1_codeword_16 ?_
      obtain ⟨i5, h⟩ := h
      refine z_icmp_lt X 24 dX1_codeword_19 rfl i2 i5 (fun c6 => ?_) (fun c6 => ?_)
      · have h := h.1 c6
        refine z_aload_n X 0 dX1_codeword_24 rfl ?_
        refine gC_X1_18_X1 X K dX1_codeword_25 ?_
        refine z_aload_n X 0 dX1_codeword_28 rfl ?_
        refine gC_X1_162_X1R X K y4 dX1_codeword_29 ?_
        refine clc_X1_188 X K rfl h (Nat.le_of_ble_eq_true rfl) dX1_codeword_32 ⟨(Nat.le_of_ble_eq_true rfl), (Nat.le_of_ble_eq_true rfl)⟩ (fun σ7 h => ?_)
        refine z_aload_n X 0 dX1_codeword_35 rfl ?_
        refine z_iload_n X 1 dX1_codeword_36 rfl ?_
        refine clc_X1_253 X K rfl h (Nat.le_of_ble_eq_true rfl) dX1_codeword_37 ⟨(Nat.le_of_ble_eq_true rfl), (Nat.le_of_ble_eq_true rfl)⟩ (fun r9 σ8 h => ?_)
        exact hR _ _ _ _ _ _ _ dX1_codeword_40 rfl (Nat.le_of_ble_eq_true rfl) (Nat.le_of_ble_eq_true rfl) h
      · have h := h.2 c6
        refine z_iconst X (-1) dX1_codeword_22 ?_
        exact hR _ _ _ _ _ _ _ dX1_codeword_23 rfl (Nat.le_of_ble_eq_true rfl) (Nat.le_of_ble_eq_true rfl) h
/- X1_set -/
set_option maxRecDepth 100000 in
theorem mtc_X1_set (l : Launch) (D : va_G) (ds : Nat → ClassId) (ad : Nat → Nat) (a0 : Int) (a1 : Int) (σ : ZS) (post : Int → ZS → Prop) (h : wc_X1_set a0 a1 σ post) : ZMetI l (ΘC D ds ad) yX1_set cX1_set 3 .boolean 6 115 300 4800 [.ref (ad 0), .int (iz a0), .int (iz a1)] σ (fun r σ => (r = 0 ∨ r = 1) ∧ post r σ) := by
  refine ZMetI.of (by decide) (Nat.le_of_ble_eq_true rfl) (fun Γ X K hR => ?_)
  have X : ZX Γ cX1_set RX1 6 115 := X
  refine z_sub [0, 1, 2] (lv' := [(0, .ref (ad 0)), (1, .int (iz a0)), (2, .int (iz a1))]) rfl ?_
  refine z_aload_n X 0 dX1_set_0 rfl ?_
  refine gC_X1_162_X1 X K dX1_set_1 ?_
  refine z_ifnullQ X 22 dX1_set_4 rfl (fun c1 => ?_) (fun c1 => ?_)
  · have h := h.1 c1
    refine z_iconst X 0 dX1_set_22 ?_
    exact hR _ _ _ _ _ _ _ dX1_set_23 (z_nb (Or.inl rfl)) (Nat.le_of_ble_eq_true rfl) (Nat.le_of_ble_eq_true rfl) ⟨(Or.inl rfl), h⟩
  · have h := h.2 c1
    refine z_iload_n X 1 dX1_set_7 rfl ?_
    obtain ⟨i2, h⟩ := h
    refine z_if_lt X 22 dX1_set_8 rfl i2 (fun c3 => ?_) (fun c3 => ?_)
    · have h := h.1 c3
      refine z_iconst X 0 dX1_set_22 ?_
      exact hR _ _ _ _ _ _ _ dX1_set_23 (z_nb (Or.inl rfl)) (Nat.le_of_ble_eq_true rfl) (Nat.le_of_ble_eq_true rfl) ⟨(Or.inl rfl), h⟩
    · have h := h.2 c3
      refine z_iload_n X 1 dX1_set_11 rfl ?_
      refine z_aload_n X 0 dX1_set_12 rfl ?_
      obtain ⟨y4, h⟩ := h
      refine gC_X1_162_X1R X K y4 dX1_set_13 ?_
      refine gC_X1_202_X5 X K (isSy_nn y4) dX1_set_16 ?_
      obtain ⟨i5, h⟩ := h
      refine z_icmp_lt X 24 dX1_set_19 rfl i2 i5 (fun c6 => ?_) (fun c6 => ?_)
      · have h := h.1 c6
        refine z_aload_n X 0 dX1_set_24 rfl ?_
        refine gC_X1_18_X1 X K dX1_set_25 ?_
        refine z_aload_n X 0 dX1_set_28 rfl ?_
        refine gC_X1_162_X1R X K y4 dX1_set_29 ?_
        refine clc_X1_188 X K rfl h (Nat.le_of_ble_eq_true rfl) dX1_set_32 ⟨(Nat.le_of_ble_eq_true rfl), (Nat.le_of_ble_eq_true rfl)⟩ (fun σ7 h => ?_)
        refine z_aload_n X 0 dX1_set_35 rfl ?_
        refine z_iload_n X 1 dX1_set_36 rfl ?_
        refine z_iload_n X 2 dX1_set_37 rfl ?_
        refine clc_X1_205 X K rfl h (Nat.le_of_ble_eq_true rfl) dX1_set_38 ⟨(Nat.le_of_ble_eq_true rfl), (Nat.le_of_ble_eq_true rfl)⟩ (fun σ8 h => ?_)
        refine z_iconst X 1 dX1_set_41 ?_
        exact hR _ _ _ _ _ _ _ dX1_set_42 (z_nb (Or.inr rfl)) (Nat.le_of_ble_eq_true rfl) (Nat.le_of_ble_eq_true rfl) ⟨(Or.inr rfl), h⟩
      · have h := h.2 c6
        refine z_iconst X 0 dX1_set_22 ?_
        exact hR _ _ _ _ _ _ _ dX1_set_23 (z_nb (Or.inl rfl)) (Nat.le_of_ble_eq_true rfl) (Nat.le_of_ble_eq_true rfl) ⟨(Or.inl rfl), h⟩
/- X1_tells -/
theorem clc_X1_236 {Γ : ZG} {cc : ByteArray} {fr lo nL mc0 ms0 k n pc : Nat} {xs : va_W} {lv : List (Nat × Value)} {st : List Value} {l : Launch} {D : va_G} {ds : Nat → ClassId} {ad : Nat → Nat} {σ : ZS} {post : ZS → Prop} (X : ZX Γ cc RX1 fr lo) (K : ZCap Γ l (ΘC D ds ad) nL mc0 ms0) (hrm : zroom 9 196 fr lo = true) (h : wc_X4_read σ post) (hst : (st.map fun v => v.category).sum ≤ 8) (d : decode cc pc = .ok (.invokevirtual 236, 3)) (hcs : k ≤ mc0 ∧ n ≤ ms0) (kk : ∀ (σ' : ZS), post σ' → Z Γ k n σ' xs (pc + 3) lv (st)) : Z Γ k n σ xs pc lv (.ref (ad 51) :: .ref (ad 45) :: st) := 
  z_callVV' (C := RX4) (q0 := 45) X K (mtc_X4_read l D ds ad  σ post h) (Nat.le_of_ble_eq_true rfl) rfl rfl rfl (lw_V q987 q988 q989 q111 q990) ⟨rfl, by decide, by decide, rfl⟩ (zroom_of (zroom_le hrm (by decide))) ⟨by rw [K.2.2.2.1]; exact hcs.1, by rw [K.2.2.2.2]; exact hcs.2⟩ hst d rfl kk
theorem clx_X1_236 {Γ : ZG} {cc : ByteArray} {fr lo nL mc0 ms0 k n pc : Nat} {xs : va_W} {lv : List (Nat × Value)} {st : List Value} {l : Launch} {D : va_G} {ds : Nat → ClassId} {ad : Nat → Nat} {σ : ZS} {post : ZS → Prop} (X : ZX Γ cc RX1 fr lo) (K : ZCap Γ l (ΘC D ds ad) nL mc0 ms0) (hrm : zroom 9 196 fr lo = true) (h : wx_X4_read σ post) (hst : (st.map fun v => v.category).sum ≤ 8) (d : decode cc pc = .ok (.invokevirtual 236, 3)) (hcs : k + 1 ≤ mc0 ∧ n + 6 ≤ ms0) (kk : ∀ (σ' : ZS) (q : Nat), post σ' → ZThrow Γ (k + 1) (n + 6) σ' xs pc lv st q) : Z Γ k n σ xs pc lv (.ref (ad 51) :: .ref (ad 45) :: st) := 
  z_callVX' (C := RX4) (q0 := 45) X K (mtx_X4_read l D ds ad  σ post h) (Nat.le_of_ble_eq_true rfl) rfl rfl rfl (lw_V q987 q988 q989 q111 q990) ⟨rfl, by decide, by decide, rfl⟩ (zroom_of (zroom_le hrm (by decide))) ⟨by rw [K.2.2.2.1]; exact hcs.1, by rw [K.2.2.2.2]; exact hcs.2⟩ hst d rfl kk
theorem clc_X1_234 {Γ : ZG} {cc : ByteArray} {fr lo nL mc0 ms0 k n pc : Nat} {xs : va_W} {lv : List (Nat × Value)} {st : List Value} {l : Launch} {D : va_G} {ds : Nat → ClassId} {ad : Nat → Nat} {a0 : Int} {σ : ZS} {post : ZS → Prop} (X : ZX Γ cc RX1 fr lo) (K : ZCap Γ l (ΘC D ds ad) nL mc0 ms0) {o : Nat} (ho : isSt o) (hrm : zroom 3 45 fr lo = true) (h : wc_X4_begin o a0 σ post) (hst : (st.map fun v => v.category).sum ≤ 8) (d : decode cc pc = .ok (.invokevirtual 234, 3)) (hcs : k ≤ mc0 ∧ n ≤ ms0) (kk : ∀ (σ' : ZS), post σ' → Z Γ k n σ' xs (pc + 3) lv (st)) : Z Γ k n σ xs pc lv (.int (iz a0) :: .ref (ad o) :: st) := by
  rcases ho with rfl | rfl
  · exact z_callVV' (C := RX4) (q0 := 45) X K (mtc_X4_begin l D ds ad 45 a0 σ post h) (Nat.le_of_ble_eq_true rfl) rfl rfl rfl (lw_V q986 q716 q717 q111 q718) ⟨rfl, by decide, by decide, rfl⟩ (zroom_of (zroom_le hrm (by decide))) ⟨by rw [K.2.2.2.1]; exact hcs.1, by rw [K.2.2.2.2]; exact hcs.2⟩ hst d rfl kk
  · exact z_callVV' (C := RX4) (q0 := 48) X K (mtc_X4_begin l D ds ad 48 a0 σ post h) (Nat.le_of_ble_eq_true rfl) rfl rfl rfl (lw_V q986 q716 q717 q111 q718) ⟨rfl, by decide, by decide, rfl⟩ (zroom_of (zroom_le hrm (by decide))) ⟨by rw [K.2.2.2.1]; exact hcs.1, by rw [K.2.2.2.2]; exact hcs.2⟩ hst d rfl kk
set_option maxRecDepth 100000 in
theorem wkc_X1_tells_66 {Γ : ZG} {l : Launch} {D : va_G} {ds : Nat → ClassId} {ad : Nat → Nat} {post : Int → ZS → Prop} (X : ZX Γ cX1_tells RX1 9 196) (K : ZCap Γ l (ΘC D ds ad) 3 1 6) (hR : ZRetI Γ cX1_tells .boolean 1 6 (fun r σ => (r = 0 ∨ r = 1) ∧ post r σ)) (htab : (zg_c Γ).exceptionTable.toList = tableOf [(36, 47, 50, 239)]) : ∀ (N : Nat) (v2 : Int) (σ : ZS), zfix (wbc_X1_tells_66 post) N (v2, σ) → Z Γ 0 0 σ [] 66 [(0, .ref (ad 0)), (2, .int (iz v2))] [] := by
  intro N
  induction N with
  | zero => intro v2 σ h; exact False.elim h
  | succ N ih =>
    intro v2 σ h
    have h : wbc_X1_tells_66 post (zfix (wbc_X1_tells_66 post) N) (v2, σ) := h
    have hC66 := ih
    clear ih
    generalize zfix (wbc_X1_tells_66 post) N = C66 at h hC66
    dsimp only [wbc_X1_tells_66] at h
    refine z_iload_n X 1 dX1_tells_66 rfl ?_
    refine z_aload_n X 0 dX1_tells_67 rfl ?_
    refine gC_X1_244_X1 X K dX1_tells_68 ?_
    obtain ⟨i1, h⟩ := h
    obtain ⟨i2, h⟩ := h
    refine z_icmp_ge X 95 dX1_tells_71 rfl i1 i2 (fun c3 => ?_) (fun c3 => ?_)
    · have h := h.1 c3
      refine z_iconst X 1 dX1_tells_95 ?_
      exact hR _ _ _ _ _ _ _ dX1_tells_96 (z_nb (Or.inr rfl)) (Nat.le_of_ble_eq_true rfl) (Nat.le_of_ble_eq_true rfl) ⟨(Or.inr rfl), h⟩
    · have h := h.2 c3
      refine z_aload_n X 0 dX1_tells_74 rfl ?_
      refine gC_X1_52_X1 X K dX1_tells_75 ?_
      refine z_iload_n X 1 dX1_tells_78 rfl ?_
      refine z_aload_n X 0 dX1_tells_79 rfl ?_
      refine gC_X1_32_X1 X K dX1_tells_80 ?_
      refine gC_X1_247_X4 X K (Or.inl rfl) dX1_tells_83 ?_
      refine z_iload_n X 1 dX1_tells_86 rfl ?_
      obtain ⟨x4, h⟩ := h
      refine z_aldB' X K 47 (Nat.le_of_ble_eq_true rfl) rfl rfl (Nat.le_of_ble_eq_true rfl) dX1_tells_87 x4 ?_
      obtain ⟨y6, h⟩ := h
      refine z_astB' X K 72 (Nat.le_of_ble_eq_true rfl) rfl rfl (Nat.le_of_ble_eq_true rfl) dX1_tells_88 x4 (z_nar_by y6) (fun σ5 eσ5 => ?_)
      have h := h σ5 eσ5
      refine z_iincK X K 1 (lv' := [(2, .int (iz (v2 + 1))), (0, .ref (ad 0))]) dX1_tells_89 rfl rfl rfl ?_
      refine z_goto (tgt := 66) X dX1_tells_92 rfl ?_
      exact z_sub [1, 0] rfl (hC66 _ _ h)
set_option maxRecDepth 100000 in
theorem wkc_X1_tells_10 {Γ : ZG} {l : Launch} {D : va_G} {ds : Nat → ClassId} {ad : Nat → Nat} {post : Int → ZS → Prop} (X : ZX Γ cX1_tells RX1 9 196) (K : ZCap Γ l (ΘC D ds ad) 3 1 6) (hR : ZRetI Γ cX1_tells .boolean 1 6 (fun r σ => (r = 0 ∨ r = 1) ∧ post r σ)) (htab : (zg_c Γ).exceptionTable.toList = tableOf [(36, 47, 50, 239)]) : ∀ (N : Nat) (v1 : Int) (v2 : Int) (σ : ZS), zfix (wbc_X1_tells_10 post) N (v1, v2, σ) → Z Γ 0 0 σ [] 10 [(0, .ref (ad 0)), (1, .int (iz v1)), (2, .int (iz v2))] [] := by
  intro N
  induction N with
  | zero => intro v1 v2 σ h; exact False.elim h
  | succ N ih =>
    intro v1 v2 σ h
    have h : wbc_X1_tells_10 post (zfix (wbc_X1_tells_10 post) N) (v1, v2, σ) := h
    have hC10 := ih
    clear ih
    generalize zfix (wbc_X1_tells_10 post) N = C10 at h hC10
    dsimp only [wbc_X1_tells_10] at h
    refine z_iload_n X 2 dX1_tells_10 rfl ?_
    refine z_iload_n X 1 dX1_tells_11 rfl ?_
    obtain ⟨i1, h⟩ := h
    obtain ⟨i2, h⟩ := h
    refine z_icmp_ge X 36 dX1_tells_12 rfl i1 i2 (fun c3 => ?_) (fun c3 => ?_)
    · have h := h.1 c3
      refine z_aload_n X 0 dX1_tells_36 rfl ?_
      refine gC_X1_32_X1 X K dX1_tells_37 ?_
      refine z_aload_n X 0 dX1_tells_40 rfl ?_
      refine gC_X1_44_X1 X K dX1_tells_41 ?_
      rcases h with h | h
      · refine clc_X1_236 X K rfl h (Nat.le_of_ble_eq_true rfl) dX1_tells_44 ⟨(Nat.le_of_ble_eq_true rfl), (Nat.le_of_ble_eq_true rfl)⟩ (fun σ4 h => ?_)
        refine z_goto (tgt := 53) X dX1_tells_47 rfl ?_
        refine z_aload_n X 0 dX1_tells_53 rfl ?_
        refine z_aload_n X 0 dX1_tells_54 rfl ?_
        refine gC_X1_32_X1 X K dX1_tells_55 ?_
        refine gC_X1_241_X4 X K (Or.inl rfl) dX1_tells_58 ?_
        refine pC_X1_244_X1 X K dX1_tells_61 (fun σ5 eσ5 => ?_)
        have h := h σ5 eσ5
        refine z_iconst X 0 dX1_tells_64 ?_
        refine z_istore_nK X K (lv' := [(2, .int (iz 0)), (0, .ref (ad 0)), (1, .int (iz v1))]) dX1_tells_65 rfl rfl ?_
        obtain ⟨N, h⟩ := h
        exact z_sub [1, 0] rfl (wkc_X1_tells_66 X K hR htab N _ _ h)
      · refine clx_X1_236 X K rfl h (Nat.le_of_ble_eq_true rfl) dX1_tells_44 ⟨(Nat.le_of_ble_eq_true rfl), (Nat.le_of_ble_eq_true rfl)⟩ (fun σx q h => ?_)
        refine z_catch X htab (by decide) rfl q985 ?_
        refine z_astore_nK X K (lv' := [(2, .ref q), (0, .ref (ad 0)), (1, .int (iz v1))]) dX1_tells_50 rfl rfl ?_
        refine z_iconst X 0 dX1_tells_51 ?_
        exact hR _ _ _ _ _ _ _ dX1_tells_52 (z_nb (Or.inl rfl)) (Nat.le_of_ble_eq_true rfl) (Nat.le_of_ble_eq_true rfl) ⟨Or.inl rfl, h⟩
    · have h := h.2 c3
      refine z_aload_n X 0 dX1_tells_15 rfl ?_
      refine gC_X1_32_X1 X K dX1_tells_16 ?_
      refine gC_X1_141_X4 X K (Or.inl rfl) dX1_tells_19 ?_
      refine z_iload_n X 2 dX1_tells_22 rfl ?_
      refine z_aload_n X 0 dX1_tells_23 rfl ?_
      refine gC_X1_59_X1 X K dX1_tells_24 ?_
      refine z_iload_n X 2 dX1_tells_27 rfl ?_
      obtain ⟨x6, h⟩ := h
      refine z_ald' X K 74 (Nat.le_of_ble_eq_true rfl) rfl rfl (Nat.le_of_ble_eq_true rfl) dX1_tells_28 x6 ?_
      refine z_ast' X K 46 (Nat.le_of_ble_eq_true rfl) rfl rfl (Nat.le_of_ble_eq_true rfl) dX1_tells_29 x6 (fun σ7 eσ7 => ?_)
      have h := h σ7 eσ7
      refine z_iincK X K 2 (lv' := [(2, .int (iz (v2 + 1))), (0, .ref (ad 0)), (1, .int (iz v1))]) dX1_tells_30 rfl rfl rfl ?_
      refine z_goto (tgt := 10) X dX1_tells_33 rfl ?_
      exact z_sub [1, 2, 0] rfl (hC10 _ _ _ h)
set_option maxRecDepth 100000 in
theorem mtc_X1_tells (l : Launch) (D : va_G) (ds : Nat → ClassId) (ad : Nat → Nat) (a0 : Int) (σ : ZS) (post : Int → ZS → Prop) (h : wc_X1_tells a0 σ post) : ZMetH l (ΘC D ds ad) yX1_tells cX1_tells 3 .boolean [(36, 47, 50, 239)] 9 196 1 6 [.ref (ad 0), .int (iz a0)] σ (fun r σ => (r = 0 ∨ r = 1) ∧ post r σ) := by
  refine ZMetH.of (by decide) (Nat.le_of_ble_eq_true rfl) (fun Γ X K hR htab => ?_)
  have X : ZX Γ cX1_tells RX1 9 196 := X
  refine z_sub [0, 1] (lv' := [(0, .ref (ad 0)), (1, .int (iz a0))]) rfl ?_
  refine z_aload_n X 0 dX1_tells_0 rfl ?_
  refine gC_X1_32_X1 X K dX1_tells_1 ?_
  refine z_iload_n X 1 dX1_tells_4 rfl ?_
  refine clc_X1_234 X K (Or.inl rfl) rfl h (Nat.le_of_ble_eq_true rfl) dX1_tells_5 ⟨(Nat.le_of_ble_eq_true rfl), (Nat.le_of_ble_eq_true rfl)⟩ (fun σ1 h => ?_)
  refine z_iconst X 0 dX1_tells_8 ?_
  refine z_istore_nK X K (lv' := [(2, .int (iz 0)), (0, .ref (ad 0)), (1, .int (iz a0))]) dX1_tells_9 rfl rfl ?_
  obtain ⟨N, h⟩ := h
  exact z_sub [1, 2, 0] rfl (wkc_X1_tells_10 X K hR htab N _ _ _ h)
/- X1_stream -/
theorem clc_X1_250 {Γ : ZG} {cc : ByteArray} {fr lo nL mc0 ms0 k n pc : Nat} {xs : va_W} {lv : List (Nat × Value)} {st : List Value} {l : Launch} {D : va_G} {ds : Nat → ClassId} {ad : Nat → Nat} {a0 : Int} {σ : ZS} {post : Int → ZS → Prop} (X : ZX Γ cc RX1 fr lo) (K : ZCap Γ l (ΘC D ds ad) nL mc0 ms0) (hrm : zroom 10 218 fr lo = true) (h : wc_X1_tells a0 σ post) (hst : (st.map fun v => v.category).sum ≤ 8) (d : decode cc pc = .ok (.invokevirtual 250, 3)) (hcs : k + 1 ≤ mc0 ∧ n + 6 ≤ ms0) (kk : ∀ (r : Int) (σ' : ZS), (fun r σ => (r = 0 ∨ r = 1) ∧ post r σ) r σ' → Z Γ (k + 1) (n + 6) σ' xs (pc + 3) lv (.int (iz r) :: st)) : Z Γ k n σ xs pc lv (.int (iz a0) :: .ref (ad 0) :: st) := 
  z_callVH' (C := RX1) (q0 := 0) X K (mtc_X1_tells l D ds ad a0 σ post h) (Nat.le_of_ble_eq_true rfl) rfl rfl rfl (lw_VW q981 q983 qs30 q108 q984) ⟨rfl, by decide, by decide, rfl⟩ (zroom_of (zroom_le hrm (by decide))) ⟨by rw [K.2.2.2.1]; exact hcs.1, by rw [K.2.2.2.2]; exact hcs.2⟩ hst d rfl kk
set_option maxRecDepth 100000 in
theorem wkc_X1_stream_36 {Γ : ZG} {l : Launch} {D : va_G} {ds : Nat → ClassId} {ad : Nat → Nat} {post : Int → ZS → Prop} (X : ZX Γ cX1_stream RX1 10 218) (K : ZCap Γ l (ΘC D ds ad) 4 1 6) (hR : ZRetI Γ cX1_stream .int 1 6 post) : ∀ (N : Nat) (v2 : Int) (v3 : Int) (σ : ZS), zfix (wbc_X1_stream_36 post) N (v2, v3, σ) → Z Γ 0 0 σ [] 36 [(0, .ref (ad 0)), (2, .int (iz v2)), (3, .int (iz v3))] [] := by
  intro N
  induction N with
  | zero => intro v2 v3 σ h; exact False.elim h
  | succ N ih =>
    intro v2 v3 σ h
    have h : wbc_X1_stream_36 post (zfix (wbc_X1_stream_36 post) N) (v2, v3, σ) := h
    have hC36 := ih
    clear ih
    generalize zfix (wbc_X1_stream_36 post) N = C36 at h hC36
    dsimp only [wbc_X1_stream_36] at h
    refine z_iload_n X 2 dX1_stream_36 rfl ?_
    refine z_iload_n X 1 dX1_stream_37 rfl ?_
    obtain ⟨i1, h⟩ := h
    obtain ⟨i2, h⟩ := h
    refine z_icmp_ge X 63 dX1_stream_38 rfl i1 i2 (fun c3 => ?_) (fun c3 => ?_)
    · have h := h.1 c3
      refine z_aload_n X 0 dX1_stream_63 rfl ?_
      refine z_iload_n X 1 dX1_stream_64 rfl ?_
      refine clc_X1_250 X K rfl h (Nat.le_of_ble_eq_true rfl) dX1_stream_65 ⟨(Nat.le_of_ble_eq_true rfl), (Nat.le_of_ble_eq_true rfl)⟩ (fun r5 σ4 h => ?_)
      obtain ⟨b5, h⟩ := h
      have h := h b5
      refine z_if_eq X 78 dX1_stream_68 rfl (InR_b b5) (fun c6 => ?_) (fun c6 => ?_)
      · have h := h.1 c6
        refine z_iconst X (-1) dX1_stream_78 ?_
        exact hR _ _ _ _ _ _ _ dX1_stream_79 rfl (Nat.le_of_ble_eq_true rfl) (Nat.le_of_ble_eq_true rfl) h
      · have h := h.2 c6
        refine z_aload_n X 0 dX1_stream_71 rfl ?_
        refine gC_X1_244_X1 X K dX1_stream_72 ?_
        refine z_goto (tgt := 79) X dX1_stream_75 rfl ?_
        exact hR _ _ _ _ _ _ _ dX1_stream_79 rfl (Nat.le_of_ble_eq_true rfl) (Nat.le_of_ble_eq_true rfl) h
    · have h := h.2 c3
      refine z_aload_n X 0 dX1_stream_41 rfl ?_
      refine gC_X1_59_X1 X K dX1_stream_42 ?_
      refine z_iload_n X 2 dX1_stream_45 rfl ?_
      refine z_aload_n X 0 dX1_stream_46 rfl ?_
      refine gC_X1_48_X1 X K dX1_stream_47 ?_
      refine z_iload_n X 2 dX1_stream_50 rfl ?_
      obtain ⟨x7, h⟩ := h
      refine z_aldB' X K 71 (Nat.le_of_ble_eq_true rfl) rfl rfl (Nat.le_of_ble_eq_true rfl) dX1_stream_51 x7 ?_
      refine z_sipush X 255 dX1_stream_52 rfl ?_
      refine z_iandm X 8 (M := 256) rfl rfl rfl dX1_stream_55 ?_
      obtain ⟨x8, h⟩ := h
      refine z_ast' X K 74 (Nat.le_of_ble_eq_true rfl) rfl rfl (Nat.le_of_ble_eq_true rfl) dX1_stream_56 x8 (fun σ9 eσ9 => ?_)
      have h := h σ9 eσ9
      refine z_iincK X K 2 (lv' := [(3, .int (iz (v3 + 1))), (0, .ref (ad 0)), (2, .int (iz v2))]) dX1_stream_57 rfl rfl rfl ?_
      refine z_goto (tgt := 36) X dX1_stream_60 rfl ?_
      exact z_sub [1, 2, 0] rfl (hC36 _ _ _ h)
set_option maxRecDepth 100000 in
theorem mtc_X1_stream (l : Launch) (D : va_G) (ds : Nat → ClassId) (ad : Nat → Nat) (a0 : Int) (σ : ZS) (post : Int → ZS → Prop) (h : wc_X1_stream a0 σ post) : ZMetI l (ΘC D ds ad) yX1_stream cX1_stream 4 .int 10 218 1 6 [.ref (ad 0), .int (iz a0)] σ post := by
  refine ZMetI.of (by decide) (Nat.le_of_ble_eq_true rfl) (fun Γ X K hR => ?_)
  have X : ZX Γ cX1_stream RX1 10 218 := X
  refine z_sub [0, 1] (lv' := [(0, .ref (ad 0)), (1, .int (iz a0))]) rfl ?_
  refine z_aload_n X 0 dX1_stream_0 rfl ?_
  refine clc_X1_99 X K rfl h (Nat.le_of_ble_eq_true rfl) dX1_stream_1 ⟨(Nat.le_of_ble_eq_true rfl), (Nat.le_of_ble_eq_true rfl)⟩ (fun r2 σ1 h => ?_)
  refine z_istore_nK X K (lv' := [(2, .int (iz r2)), (0, .ref (ad 0)), (1, .int (iz a0))]) dX1_stream_4 rfl rfl ?_
  refine z_iload_n X 2 dX1_stream_5 rfl ?_
  obtain ⟨i3, h⟩ := h
  refine z_if_lt X 15 dX1_stream_6 rfl i3 (fun c4 => ?_) (fun c4 => ?_)
  · have h := h.1 c4
    refine z_bipush X (-3) dX1_stream_15 rfl ?_
    exact hR _ _ _ _ _ _ _ dX1_stream_17 rfl (Nat.le_of_ble_eq_true rfl) (Nat.le_of_ble_eq_true rfl) h
  · have h := h.2 c4
    refine z_iload_n X 2 dX1_stream_9 rfl ?_
    refine z_bipush X 30 dX1_stream_10 rfl ?_
    refine z_icmp_lt X 18 dX1_stream_12 rfl i3 (by decide) (fun c5 => ?_) (fun c5 => ?_)
    · have h := h.1 c5
      refine z_iload_n X 0 dX1_stream_18 rfl ?_
      refine z_aload_n X 1 dX1_stream_19 rfl ?_
      refine gC_X1_11_X1 X K dX1_stream_20 ?_
      refine z_iload_n X 2 dX1_stream_23 rfl ?_
      obtain ⟨x6, h⟩ := h
      refine aC_symbols X K dX1_stream_24 x6 ?_
      refine gC_X1_107_X5 X K (isSy_ix x6) dX1_stream_25 ?_
      obtain ⟨i7, h⟩ := h
      obtain ⟨i8, h⟩ := h
      refine z_icmp_eq X 34 dX1_stream_28 rfl i7 i8 (fun c9 => ?_) (fun c9 => ?_)
      · have h := h.1 c9
        refine z_iconst X 0 dX1_stream_34 ?_
        refine z_istore_nK X K (lv' := [(3, .int (iz 0)), (2, .int (iz r2)), (0, .ref (ad 0)), (1, .int (iz a0))]) dX1_stream_35 rfl rfl ?_
        obtain ⟨N, h⟩ := h
        exact z_sub [2, 1, 0] rfl (wkc_X1_stream_36 X K hR N _ _ _ h)
      · have h := h.2 c9
        refine z_bipush X (-2) dX1_stream_31 rfl ?_
        exact hR _ _ _ _ _ _ _ dX1_stream_33 rfl (Nat.le_of_ble_eq_true rfl) (Nat.le_of_ble_eq_true rfl) h
    · have h := h.2 c5
      refine z_bipush X (-3) dX1_stream_15 rfl ?_
      exact hR _ _ _ _ _ _ _ dX1_stream_17 rfl (Nat.le_of_ble_eq_true rfl) (Nat.le_of_ble_eq_true rfl) h
/- X1_decode -/
theorem clc_X1_147 {Γ : ZG} {cc : ByteArray} {fr lo nL mc0 ms0 k n pc : Nat} {xs : va_W} {lv : List (Nat × Value)} {st : List Value} {l : Launch} {D : va_G} {ds : Nat → ClassId} {ad : Nat → Nat} {q0 : Nat} {a1 : Int} {σ : ZS} {post : Int → ZS → Prop} (X : ZX Γ cc RX1 fr lo) (K : ZCap Γ l (ΘC D ds ad) nL mc0 ms0) (hrm : zroom 4 69 fr lo = true) (h : wc_X1_gathers q0 a1 σ post) (hst : (st.map fun v => v.category).sum ≤ 8) (d : decode cc pc = .ok (.invokevirtual 147, 3)) (hcs : k ≤ mc0 ∧ n ≤ ms0) (kk : ∀ (r : Int) (σ' : ZS), post r σ' → Z Γ k n σ' xs (pc + 3) lv (.int (iz r) :: st)) : Z Γ k n σ xs pc lv (.int (iz a1) :: .ref (ad q0) :: .ref (ad 0) :: st) := 
  z_callVI' (C := RX1) (q0 := 0) X K (mtc_X1_gathers l D ds ad q0 a1 σ post h) (Nat.le_of_ble_eq_true rfl) rfl rfl rfl (lw_V q909 q911 qs20 q108 q912) ⟨rfl, by decide, by decide, rfl⟩ (zroom_of (zroom_le hrm (by decide))) ⟨by rw [K.2.2.2.1]; exact hcs.1, by rw [K.2.2.2.2]; exact hcs.2⟩ hst d rfl kk
theorem clc_X1_151 {Γ : ZG} {cc : ByteArray} {fr lo nL mc0 ms0 k n pc : Nat} {xs : va_W} {lv : List (Nat × Value)} {st : List Value} {l : Launch} {D : va_G} {ds : Nat → ClassId} {ad : Nat → Nat} {σ : ZS} {post : Int → ZS → Prop} (X : ZX Γ cc RX1 fr lo) (K : ZCap Γ l (ΘC D ds ad) nL mc0 ms0) {o : Nat} (ho : isSy o) (hrm : zroom 3 44 fr lo = true) (h : wc_X5_checksOf o σ post) (hst : (st.map fun v => v.category).sum ≤ 8) (d : decode cc pc = .ok (.invokevirtual 151, 3)) (hcs : k ≤ mc0 ∧ n ≤ ms0) (kk : ∀ (r : Int) (σ' : ZS), post r σ' → Z Γ k n σ' xs (pc + 3) lv (.int (iz r) :: st)) : Z Γ k n σ xs pc lv (.ref (ad o) :: st) := 
  z_callVI' (C := RX5) (q0 := o) X K (mtc_X5_checksOf l D ds ad o σ post h) (isSy_75 ho) (LC_sy ho) rfl rfl (lw_V q917 q918 q919 q115 q920) ⟨rfl, by decide, by decide, rfl⟩ (zroom_of (zroom_le hrm (by decide))) ⟨by rw [K.2.2.2.1]; exact hcs.1, by rw [K.2.2.2.2]; exact hcs.2⟩ hst d rfl kk
theorem clc_X1_256 {Γ : ZG} {cc : ByteArray} {fr lo nL mc0 ms0 k n pc : Nat} {xs : va_W} {lv : List (Nat × Value)} {st : List Value} {l : Launch} {D : va_G} {ds : Nat → ClassId} {ad : Nat → Nat} {a0 : Int} {a1 : Int} {σ : ZS} {post : Int → ZS → Prop} (X : ZX Γ cc RX1 fr lo) (K : ZCap Γ l (ΘC D ds ad) nL mc0 ms0) (hrm : zroom 5 103 fr lo = true) (h : wc_X3_mend a0 a1 σ post) (hst : (st.map fun v => v.category).sum ≤ 8) (d : decode cc pc = .ok (.invokevirtual 256, 3)) (hcs : k ≤ mc0 ∧ n ≤ ms0) (kk : ∀ (r : Int) (σ' : ZS), post r σ' → Z Γ k n σ' xs (pc + 3) lv (.int (iz r) :: st)) : Z Γ k n σ xs pc lv (.int (iz a1) :: .int (iz a0) :: .ref (ad 35) :: st) := 
  z_callVI' (C := RX3) (q0 := 35) X K (mtc_X3_mend l D ds ad a0 a1 σ post h) (Nat.le_of_ble_eq_true rfl) rfl rfl rfl (lw_V q1115 q1116 q1117 q110 q1118) ⟨rfl, by decide, by decide, rfl⟩ (zroom_of (zroom_le hrm (by decide))) ⟨by rw [K.2.2.2.1]; exact hcs.1, by rw [K.2.2.2.2]; exact hcs.2⟩ hst d rfl kk
theorem clc_X1_158 {Γ : ZG} {cc : ByteArray} {fr lo nL mc0 ms0 k n pc : Nat} {xs : va_W} {lv : List (Nat × Value)} {st : List Value} {l : Launch} {D : va_G} {ds : Nat → ClassId} {ad : Nat → Nat} {q0 : Nat} {a1 : Int} {a2 : Int} {σ : ZS} {post : ZS → Prop} (X : ZX Γ cc RX1 fr lo) (K : ZCap Γ l (ΘC D ds ad) nL mc0 ms0) (hrm : zroom 3 48 fr lo = true) (h : wc_X1_spreads q0 a1 a2 σ post) (hst : (st.map fun v => v.category).sum ≤ 8) (d : decode cc pc = .ok (.invokevirtual 158, 3)) (hcs : k ≤ mc0 ∧ n ≤ ms0) (kk : ∀ (σ' : ZS), post σ' → Z Γ k n σ' xs (pc + 3) lv (st)) : Z Γ k n σ xs pc lv (.int (iz a2) :: .int (iz a1) :: .ref (ad q0) :: .ref (ad 0) :: st) := 
  z_callVV' (C := RX1) (q0 := 0) X K (mtc_X1_spreads l D ds ad q0 a1 a2 σ post h) (Nat.le_of_ble_eq_true rfl) rfl rfl rfl (lw_V q929 q931 qs22 q108 q932) ⟨rfl, by decide, by decide, rfl⟩ (zroom_of (zroom_le hrm (by decide))) ⟨by rw [K.2.2.2.1]; exact hcs.1, by rw [K.2.2.2.2]; exact hcs.2⟩ hst d rfl kk
set_option maxRecDepth 100000 in
theorem wkc_X1_decode_55 {Γ : ZG} {l : Launch} {D : va_G} {ds : Nat → ClassId} {ad : Nat → Nat} {post : Int → ZS → Prop} (X : ZX Γ cX1_decode RX1 10 218) (K : ZCap Γ l (ΘC D ds ad) 5 301 4806) (hR : ZRetI Γ cX1_decode .int 301 4806 post) : ∀ (N : Nat) (v1 : Int) (v2 : Int) (σ : ZS), zfix (wbc_X1_decode_55 post) N (v1, v2, σ) → Z Γ 300 4800 σ [] 55 [(0, .ref (ad 0)), (1, .int (iz v1)), (2, .int (iz v2))] [] := by
  intro N
  induction N with
  | zero => intro v1 v2 σ h; exact False.elim h
  | succ N ih =>
    intro v1 v2 σ h
    have h : wbc_X1_decode_55 post (zfix (wbc_X1_decode_55 post) N) (v1, v2, σ) := h
    have hC55 := ih
    clear ih
    generalize zfix (wbc_X1_decode_55 post) N = C55 at h hC55
    dsimp only [wbc_X1_decode_55] at h
    refine z_iload_n X 2 dX1_decode_55 rfl ?_
    refine z_aload_n X 0 dX1_decode_56 rfl ?_
    obtain ⟨y1, h⟩ := h
    refine gC_X1_162_X1R X K y1 dX1_decode_57 ?_
    refine gC_X1_144_X5 X K (isSy_nn y1) dX1_decode_60 ?_
    obtain ⟨i2, h⟩ := h
    obtain ⟨i3, h⟩ := h
    refine z_icmp_ge X 121 dX1_decode_63 rfl i2 i3 (fun c4 => ?_) (fun c4 => ?_)
    · have h := h.1 c4
      refine z_aload_n X 0 dX1_decode_121 rfl ?_
      refine z_aload_n X 0 dX1_decode_122 rfl ?_
      refine gC_X1_162_X1R X K y1 dX1_decode_123 ?_
      refine gC_X1_107_X5 X K (isSy_nn y1) dX1_decode_126 ?_
      refine clc_X1_250 X K rfl h (Nat.le_of_ble_eq_true rfl) dX1_decode_129 ⟨(Nat.le_of_ble_eq_true rfl), (Nat.le_of_ble_eq_true rfl)⟩ (fun r6 σ5 h => ?_)
      obtain ⟨b6, h⟩ := h
      have h := h b6
      refine z_if_ne X 138 dX1_decode_132 rfl (InR_b b6) (fun c7 => ?_) (fun c7 => ?_)
      · have h := h.1 c7
        refine z_aload_n X 0 dX1_decode_138 rfl ?_
        refine z_iload_n X 1 dX1_decode_139 rfl ?_
        refine pC_X1_259_X1 X K dX1_decode_140 (fun σ8 eσ8 => ?_)
        have h := h σ8 eσ8
        refine z_aload_n X 0 dX1_decode_143 rfl ?_
        refine gC_X1_244_X1 X K dX1_decode_144 ?_
        exact hR _ _ _ _ _ _ _ dX1_decode_147 rfl (Nat.le_of_ble_eq_true rfl) (Nat.le_of_ble_eq_true rfl) h
      · have h := h.2 c7
        refine z_bipush X (-2) dX1_decode_135 rfl ?_
        exact hR _ _ _ _ _ _ _ dX1_decode_137 rfl (Nat.le_of_ble_eq_true rfl) (Nat.le_of_ble_eq_true rfl) h
    · have h := h.2 c4
      refine z_aload_n X 0 dX1_decode_66 rfl ?_
      refine z_aload_n X 0 dX1_decode_67 rfl ?_
      refine gC_X1_162_X1R X K y1 dX1_decode_68 ?_
      refine z_iload_n X 2 dX1_decode_71 rfl ?_
      refine clc_X1_147 X K rfl h (Nat.le_of_ble_eq_true rfl) dX1_decode_72 ⟨(Nat.le_of_ble_eq_true rfl), (Nat.le_of_ble_eq_true rfl)⟩ (fun r10 σ9 h => ?_)
      refine z_istore_nK X K (lv' := [(3, .int (iz r10)), (0, .ref (ad 0)), (1, .int (iz v1)), (2, .int (iz v2))]) dX1_decode_75 rfl rfl ?_
      refine z_aload_n X 1 dX1_decode_76 rfl ?_
      refine gC_X1_25_X1 X K dX1_decode_77 ?_
      refine z_iload_n X 0 dX1_decode_80 rfl ?_
      refine z_aload_n X 1 dX1_decode_81 rfl ?_
      obtain ⟨y11, h⟩ := h
      refine gC_X1_162_X1R X K y11 dX1_decode_82 ?_
      refine clc_X1_151 X K (isSy_nn y11) rfl h (Nat.le_of_ble_eq_true rfl) dX1_decode_85 ⟨(Nat.le_of_ble_eq_true rfl), (Nat.le_of_ble_eq_true rfl)⟩ (fun r13 σ12 h => ?_)
      refine clc_X1_256 X K rfl h (Nat.le_of_ble_eq_true rfl) dX1_decode_88 ⟨(Nat.le_of_ble_eq_true rfl), (Nat.le_of_ble_eq_true rfl)⟩ (fun r15 σ14 h => ?_)
      refine z_istoreK X K (lv' := [(4, .int (iz r15)), (3, .int (iz r10)), (0, .ref (ad 0)), (1, .int (iz v1)), (2, .int (iz v2))]) dX1_decode_91 rfl rfl ?_
      refine z_iload X 0 dX1_decode_93 rfl ?_
      obtain ⟨i16, h⟩ := h
      refine z_if_ge X 100 dX1_decode_95 rfl i16 (fun c17 => ?_) (fun c17 => ?_)
      · have h := h.1 c17
        refine z_iload_n X 3 dX1_decode_100 rfl ?_
        refine z_iload X 0 dX1_decode_101 rfl ?_
        refine z_iadd X dX1_decode_103 ?_
        refine z_topi (fun v1_18 ev1_18 => ?_)
        have h := h v1_18 ev1_18
        refine z_istore_nK X K (lv' := [(1, .int (iz v1_18)), (4, .int (iz r15)), (3, .int (iz r10)), (0, .ref (ad 0)), (2, .int (iz v2))]) dX1_decode_104 rfl rfl ?_
        refine z_aload_n X 3 dX1_decode_105 rfl ?_
        refine z_aload_n X 3 dX1_decode_106 rfl ?_
        obtain ⟨y19, h⟩ := h
        refine gC_X1_162_X1R X K y19 dX1_decode_107 ?_
        refine z_iload_n X 4 dX1_decode_110 rfl ?_
        refine z_iload_n X 2 dX1_decode_111 rfl ?_
        refine clc_X1_158 X K rfl h (Nat.le_of_ble_eq_true rfl) dX1_decode_112 ⟨(Nat.le_of_ble_eq_true rfl), (Nat.le_of_ble_eq_true rfl)⟩ (fun σ20 h => ?_)
        refine z_iincK X K 4 (lv' := [(2, .int (iz (v2 + 1))), (1, .int (iz v1_18)), (4, .int (iz r15)), (3, .int (iz r10)), (0, .ref (ad 0))]) dX1_decode_115 rfl rfl rfl ?_
        refine z_goto (tgt := 55) X dX1_decode_118 rfl ?_
        exact z_sub [4, 1, 0] rfl (hC55 _ _ _ h)
      · have h := h.2 c17
        refine z_iconst X (-1) dX1_decode_98 ?_
        exact hR _ _ _ _ _ _ _ dX1_decode_99 rfl (Nat.le_of_ble_eq_true rfl) (Nat.le_of_ble_eq_true rfl) h
set_option maxRecDepth 100000 in
theorem wkc_X1_decode_23 {Γ : ZG} {l : Launch} {D : va_G} {ds : Nat → ClassId} {ad : Nat → Nat} {post : Int → ZS → Prop} (X : ZX Γ cX1_decode RX1 10 218) (K : ZCap Γ l (ΘC D ds ad) 5 301 4806) (hR : ZRetI Γ cX1_decode .int 301 4806 post) : ∀ (N : Nat) (v1 : Int) (σ : ZS), zfix (wbc_X1_decode_23 post) N (v1, σ) → Z Γ 300 4800 σ [] 23 [(0, .ref (ad 0)), (1, .int (iz v1))] [] := by
  intro N
  induction N with
  | zero => intro v1 σ h; exact False.elim h
  | succ N ih =>
    intro v1 σ h
    have h : wbc_X1_decode_23 post (zfix (wbc_X1_decode_23 post) N) (v1, σ) := h
    have hC23 := ih
    clear ih
    generalize zfix (wbc_X1_decode_23 post) N = C23 at h hC23
    dsimp only [wbc_X1_decode_23] at h
    refine z_iload_n X 1 dX1_decode_23 rfl ?_
    refine z_aload_n X 0 dX1_decode_24 rfl ?_
    obtain ⟨y1, h⟩ := h
    refine gC_X1_162_X1R X K y1 dX1_decode_25 ?_
    refine gC_X1_202_X5 X K (isSy_nn y1) dX1_decode_28 ?_
    obtain ⟨i2, h⟩ := h
    obtain ⟨i3, h⟩ := h
    refine z_icmp_ge X 51 dX1_decode_31 rfl i2 i3 (fun c4 => ?_) (fun c4 => ?_)
    · have h := h.1 c4
      refine z_iconst X 0 dX1_decode_51 ?_
      refine z_istore_nK X K (lv' := [(1, .int (iz 0)), (0, .ref (ad 0))]) dX1_decode_52 rfl rfl ?_
      refine z_iconst X 0 dX1_decode_53 ?_
      refine z_istore_nK X K (lv' := [(2, .int (iz 0)), (1, .int (iz 0)), (0, .ref (ad 0))]) dX1_decode_54 rfl rfl ?_
      obtain ⟨N, h⟩ := h
      exact z_sub [2, 1, 0] rfl (wkc_X1_decode_55 X K hR N _ _ _ h)
    · have h := h.2 c4
      refine z_aload_n X 0 dX1_decode_34 rfl ?_
      refine gC_X1_59_X1 X K dX1_decode_35 ?_
      refine z_iload_n X 1 dX1_decode_38 rfl ?_
      refine z_aload_n X 0 dX1_decode_39 rfl ?_
      refine z_iload_n X 1 dX1_decode_40 rfl ?_
      refine clc_X1_253 X K rfl h (Nat.le_of_ble_eq_true rfl) dX1_decode_41 ⟨(Nat.le_of_ble_eq_true rfl), (Nat.le_of_ble_eq_true rfl)⟩ (fun r6 σ5 h => ?_)
      obtain ⟨x7, h⟩ := h
      refine z_ast' X K 74 (Nat.le_of_ble_eq_true rfl) rfl rfl (Nat.le_of_ble_eq_true rfl) dX1_decode_44 x7 (fun σ8 eσ8 => ?_)
      have h := h σ8 eσ8
      refine z_iincK X K 1 (lv' := [(1, .int (iz (v1 + 1))), (0, .ref (ad 0))]) dX1_decode_45 rfl rfl rfl ?_
      refine z_goto (tgt := 23) X dX1_decode_48 rfl ?_
      exact z_sub [1, 0] rfl (hC23 _ _ h)
set_option maxRecDepth 100000 in
theorem mtc_X1_decode (l : Launch) (D : va_G) (ds : Nat → ClassId) (ad : Nat → Nat) (σ : ZS) (post : Int → ZS → Prop) (h : wc_X1_decode  σ post) : ZMetI l (ΘC D ds ad) yX1_decode cX1_decode 5 .int 10 218 301 4806 [.ref (ad 0)] σ post := by
  refine ZMetI.of (by decide) (Nat.le_of_ble_eq_true rfl) (fun Γ X K hR => ?_)
  have X : ZX Γ cX1_decode RX1 10 218 := X
  refine z_sub [0] (lv' := [(0, .ref (ad 0))]) rfl ?_
  refine z_aload_n X 0 dX1_decode_0 rfl ?_
  refine gC_X1_162_X1 X K dX1_decode_1 ?_
  refine z_ifnonnullQ X 10 dX1_decode_4 rfl (fun c1 => ?_) (fun c1 => ?_)
  · have h := h.1 c1
    refine z_aload_n X 0 dX1_decode_10 rfl ?_
    refine gC_X1_18_X1 X K dX1_decode_11 ?_
    refine z_aload_n X 0 dX1_decode_14 rfl ?_
    obtain ⟨y2, h⟩ := h
    refine gC_X1_162_X1R X K y2 dX1_decode_15 ?_
    refine clc_X1_188 X K rfl h (Nat.le_of_ble_eq_true rfl) dX1_decode_18 ⟨(Nat.le_of_ble_eq_true rfl), (Nat.le_of_ble_eq_true rfl)⟩ (fun σ3 h => ?_)
    refine z_iconst X 0 dX1_decode_21 ?_
    refine z_istore_nK X K (lv' := [(1, .int (iz 0)), (0, .ref (ad 0))]) dX1_decode_22 rfl rfl ?_
    obtain ⟨N, h⟩ := h
    exact z_sub [1, 0] rfl (wkc_X1_decode_23 X K hR N _ _ h)
  · have h := h.2 c1
    refine z_bipush X (-3) dX1_decode_7 rfl ?_
    exact hR _ _ _ _ _ _ _ dX1_decode_9 rfl (Nat.le_of_ble_eq_true rfl) (Nat.le_of_ble_eq_true rfl) h
