/-! methods that read streams and throw (printed by tools/walkgenC.py): field rows, what is asked (wc: comes back, wx: throws), walks -/
theorem gC_X8_19_X8 {Γ : ZG} {cc : ByteArray} {fr lo nL mc0 ms0 k n pc : Nat} {σ : ZS} {xs : va_W} {lv : List (Nat × Value)} {st : List Value} {l : Launch} {D : va_G} {ds : Nat → ClassId} {ad : Nat → Nat} (X : ZX Γ cc RX8 fr lo) (K : ZCap Γ l (ΘC D ds ad) nL mc0 ms0) {o : Nat} (ho : isSe o) (d : decode cc pc = .ok (.getfield 19, 3)) (h : Z Γ k n σ xs (pc + 3) lv (.int (iz (σ o 4)) :: st)) : Z Γ k n σ xs pc lv (.ref (ad o) :: st) := by
  rcases ho with rfl | rfl
  · exact z_get' (C := RX8) (T := TX8) (N0 := 7) (ref := RX8) (kd := 0) X K in_X8 53 (Nat.le_of_ble_eq_true rfl) rfl rfl 4 (Nat.le_of_ble_eq_true rfl) q347 (fun _ h => h) rfl d h
  · exact z_get' (C := RX8) (T := TX8) (N0 := 7) (ref := RX8) (kd := 0) X K in_X8 56 (Nat.le_of_ble_eq_true rfl) rfl rfl 4 (Nat.le_of_ble_eq_true rfl) q347 (fun _ h => h) rfl d h
theorem pC_X10_21_X4 {Γ : ZG} {cc : ByteArray} {fr lo nL mc0 ms0 k n pc : Nat} {σ : ZS} {xs : va_W} {lv : List (Nat × Value)} {st : List Value} {l : Launch} {D : va_G} {ds : Nat → ClassId} {ad : Nat → Nat} {v : Int} (X : ZX Γ cc RX10 fr lo) (K : ZCap Γ l (ΘC D ds ad) nL mc0 ms0) {o : Nat} (ho : isSt o) (d : decode cc pc = .ok (.putfield 21, 3)) (h : ∀ σ', σ' = zst σ o 3 v → Z Γ k n σ' xs (pc + 3) lv st) : Z Γ k n σ xs pc lv (.int (iz v) :: .ref (ad o) :: st) := by
  rcases ho with rfl | rfl
  · exact z_putN' (C := RX4) (T := TX4) (N0 := 5) (ref := RX4) (host := "MatrixPress") (kd := 0) (ty := .int) X K in_X4 tyX4 tyX4_ok nmX4 45 (Nat.le_of_ble_eq_true rfl) rfl rfl 3 (Nat.le_of_ble_eq_true rfl) q226 (fun _ h => h) rfl (by decide +kernel) rfl rfl rfl d h
  · exact z_putN' (C := RX4) (T := TX4) (N0 := 5) (ref := RX4) (host := "MatrixPress") (kd := 0) (ty := .int) X K in_X4 tyX4 tyX4_ok nmX4 48 (Nat.le_of_ble_eq_true rfl) rfl rfl 3 (Nat.le_of_ble_eq_true rfl) q226 (fun _ h => h) rfl (by decide +kernel) rfl rfl rfl d h
theorem gC_X10_21_X4 {Γ : ZG} {cc : ByteArray} {fr lo nL mc0 ms0 k n pc : Nat} {σ : ZS} {xs : va_W} {lv : List (Nat × Value)} {st : List Value} {l : Launch} {D : va_G} {ds : Nat → ClassId} {ad : Nat → Nat} (X : ZX Γ cc RX10 fr lo) (K : ZCap Γ l (ΘC D ds ad) nL mc0 ms0) {o : Nat} (ho : isSt o) (d : decode cc pc = .ok (.getfield 21, 3)) (h : Z Γ k n σ xs (pc + 3) lv (.int (iz (σ o 3)) :: st)) : Z Γ k n σ xs pc lv (.ref (ad o) :: st) := by
  rcases ho with rfl | rfl
  · exact z_getN' (C := RX4) (T := TX4) (N0 := 5) (ref := RX4) (host := "MatrixPress") (kd := 0) X K in_X4 45 (Nat.le_of_ble_eq_true rfl) rfl rfl 3 (Nat.le_of_ble_eq_true rfl) q226 (fun _ h => h) rfl d h
  · exact z_getN' (C := RX4) (T := TX4) (N0 := 5) (ref := RX4) (host := "MatrixPress") (kd := 0) X K in_X4 48 (Nat.le_of_ble_eq_true rfl) rfl rfl 3 (Nat.le_of_ble_eq_true rfl) q226 (fun _ h => h) rfl d h
theorem gC_X4_65_En {Γ : ZG} {cc : ByteArray} {fr lo nL mc0 ms0 k n pc : Nat} {σ : ZS} {xs : va_W} {lv : List (Nat × Value)} {st : List Value} {l : Launch} {D : va_G} {ds : Nat → ClassId} {ad : Nat → Nat} (X : ZX Γ cc RX4 fr lo) (K : ZCap Γ l (ΘC D ds ad) nL mc0 ms0) {o : Nat} (ho : isEn o) (d : decode cc pc = .ok (.getfield 65, 3)) (h : Z Γ k n σ xs (pc + 3) lv (.int (iz (latchOf σ o)) :: st)) : Z Γ k n σ xs pc lv (.ref (ad o) :: st) := by
  rcases ho with rfl | rfl | rfl | rfl | rfl
  · exact z_getN' (C := RX8) (T := TX8) (N0 := 7) (ref := RX6) (host := "MatrixPress") (kd := 0) X K in_X8 53 (Nat.le_of_ble_eq_true rfl) rfl rfl 2 (Nat.le_of_ble_eq_true rfl) q353 (fun _ h => h) rfl d h
  · exact z_getN' (C := RX8) (T := TX8) (N0 := 7) (ref := RX6) (host := "MatrixPress") (kd := 0) X K in_X8 56 (Nat.le_of_ble_eq_true rfl) rfl rfl 2 (Nat.le_of_ble_eq_true rfl) q353 (fun _ h => h) rfl d h
  · exact z_getN' (C := RX9) (T := TX9) (N0 := 4) (ref := RX6) (host := "MatrixPress") (kd := 0) X K in_X9 59 (Nat.le_of_ble_eq_true rfl) rfl rfl 2 (Nat.le_of_ble_eq_true rfl) q353 (fun _ h => h) rfl d h
  · exact z_getN' (C := RX10) (T := TX10) (N0 := 4) (ref := RX6) (host := "MatrixPress") (kd := 0) X K in_X10 62 (Nat.le_of_ble_eq_true rfl) rfl rfl 0 (Nat.le_of_ble_eq_true rfl) q353 (fun _ h => h) rfl d h
  · exact z_getN' (C := RX11) (T := TX11) (N0 := 2) (ref := RX6) (host := "MatrixPress") (kd := 0) X K in_X11 64 (Nat.le_of_ble_eq_true rfl) rfl rfl 0 (Nat.le_of_ble_eq_true rfl) q353 (fun _ h => h) rfl d h
/- X4_next -/
def wc_X4_next (σ : ZS) (post : Int → ZS → Prop) : Prop :=
  (InR (σ 45 3)) ∧
  (InR (σ 45 2)) ∧
  ((¬ (σ 45 3) = (σ 45 2) →
    ∀ σ4 : ZS, σ4 = zst σ 45 3 ((σ 45 3) + 1) →
    (0 ≤ (σ 45 3) ∧ (σ 45 3) < 2178) ∧
    post (σ4 46 (σ 45 3)) σ4
  ) ∧
  ((σ 45 3) = (σ 45 2) →
    False
  ))
/- X4_next -/
def wx_X4_next (σ : ZS) (post : ZS → Prop) : Prop :=
  (InR (σ 45 3)) ∧
  (InR (σ 45 2)) ∧
  ((¬ (σ 45 3) = (σ 45 2) →
    ∀ σ4 : ZS, σ4 = zst σ 45 3 ((σ 45 3) + 1) →
    (0 ≤ (σ 45 3) ∧ (σ 45 3) < 2178) ∧
    False
  ) ∧
  ((σ 45 3) = (σ 45 2) →
    post σ
  ))
/- X8_shifted -/
def wc_X8_shifted_65 (o : Nat) (post : Int → ZS → Prop) (σ : ZS) : Prop :=
  False
def wc_X8_shifted_54 (o : Nat) (post : Int → ZS → Prop) (v1 : Int) (v2 : Int) (σ : ZS) : Prop :=
  (InR v1) ∧
  ((¬ v1 = 2 →
    wc_X8_shifted_65 o post σ
  ) ∧
  (v1 = 2 →
    (InR v2) ∧
    ((v2 < 32 →
      (InR (σ o 3)) ∧
      ((¬ (σ o 3) = 0 →
        ((¬ v2 = 0 →
          ((27 ≤ v2 →
            post (v2 + 96) σ
          ) ∧
          (v2 < 27 →
            post (v2 + 64) σ
          ))
        ) ∧
        (v2 = 0 →
          post 96 σ
        ))
      ) ∧
      ((σ o 3) = 0 →
        post (v2 + 96) σ
      ))
    ) ∧
    (32 ≤ v2 →
      wc_X8_shifted_65 o post σ
    ))
  ))
def wc_X8_shifted_12 (o : Nat) (post : Int → ZS → Prop) (v1 : Int) (v2 : Int) (σ : ZS) : Prop :=
  (InR v1) ∧
  ((¬ v1 = 1 →
    wc_X8_shifted_54 o post v1 v2 σ
  ) ∧
  (v1 = 1 →
    (InR v2) ∧
    ((27 ≤ v2 →
      wc_X8_shifted_54 o post v1 v2 σ
    ) ∧
    (v2 < 27 →
      ((15 ≤ v2 →
        ((22 ≤ v2 →
          post (v2 + 69) σ
        ) ∧
        (v2 < 22 →
          post (v2 + 43) σ
        ))
      ) ∧
      (v2 < 15 →
        post (v2 + 33) σ
      ))
    ))
  ))
def wc_X8_shifted (o : Nat) (a0 : Int) (a1 : Int) (σ : ZS) (post : Int → ZS → Prop) : Prop :=
  (isSe o) ∧
  (InR a0) ∧
  ((¬ a0 = 0 →
    wc_X8_shifted_12 o post a0 a1 σ
  ) ∧
  (a0 = 0 →
    (InR a1) ∧
    ((32 ≤ a1 →
      wc_X8_shifted_12 o post a0 a1 σ
    ) ∧
    (a1 < 32 →
      post a1 σ
    ))
  ))
/- X8_shifted -/
def wx_X8_shifted_65 (o : Nat) (post : ZS → Prop) (σ : ZS) : Prop :=
  post σ
def wx_X8_shifted_54 (o : Nat) (post : ZS → Prop) (v1 : Int) (v2 : Int) (σ : ZS) : Prop :=
  (InR v1) ∧
  ((¬ v1 = 2 →
    wx_X8_shifted_65 o post σ
  ) ∧
  (v1 = 2 →
    (InR v2) ∧
    ((v2 < 32 →
      (InR (σ o 3)) ∧
      ((¬ (σ o 3) = 0 →
        ((¬ v2 = 0 →
          ((27 ≤ v2 →
            False
          ) ∧
          (v2 < 27 →
            False
          ))
        ) ∧
        (v2 = 0 →
          False
        ))
      ) ∧
      ((σ o 3) = 0 →
        False
      ))
    ) ∧
    (32 ≤ v2 →
      wx_X8_shifted_65 o post σ
    ))
  ))
def wx_X8_shifted_12 (o : Nat) (post : ZS → Prop) (v1 : Int) (v2 : Int) (σ : ZS) : Prop :=
  (InR v1) ∧
  ((¬ v1 = 1 →
    wx_X8_shifted_54 o post v1 v2 σ
  ) ∧
  (v1 = 1 →
    (InR v2) ∧
    ((27 ≤ v2 →
      wx_X8_shifted_54 o post v1 v2 σ
    ) ∧
    (v2 < 27 →
      ((15 ≤ v2 →
        ((22 ≤ v2 →
          False
        ) ∧
        (v2 < 22 →
          False
        ))
      ) ∧
      (v2 < 15 →
        False
      ))
    ))
  ))
def wx_X8_shifted (o : Nat) (a0 : Int) (a1 : Int) (σ : ZS) (post : ZS → Prop) : Prop :=
  (isSe o) ∧
  (InR a0) ∧
  ((¬ a0 = 0 →
    wx_X8_shifted_12 o post a0 a1 σ
  ) ∧
  (a0 = 0 →
    (InR a1) ∧
    ((32 ≤ a1 →
      wx_X8_shifted_12 o post a0 a1 σ
    ) ∧
    (a1 < 32 →
      False
    ))
  ))
/- X8_take -/
def wc_X8_take_123 (o : Nat) (post : ZS → Prop) (v2 : Int) (v4 : Int) (σ : ZS) : Prop :=
  wc_X8_shifted o v4 v2 σ (fun r2 σ1 => 
  wc_X8_tells o r2 σ1 (fun σ3 => 
  post σ3))
def wc_X8_take_69 (o : Nat) (post : ZS → Prop) (t0 : Int) (σ : ZS) : Prop :=
  wc_X8_tells o t0 σ (fun σ1 => 
  post σ1)
def wc_X8_take_68 (o : Nat) (post : ZS → Prop) (t0 : Int) (t1 : Int) (σ : ZS) : Prop :=
  wc_X8_take_69 o post (t1 + t0) σ
def wc_X8_take_24 (o : Nat) (post : ZS → Prop) (t0 : Int) (σ : ZS) : Prop :=
  ∀ σ1 : ZS, σ1 = zst σ o 4 t0 →
  post σ1
def wc_X8_take (o : Nat) (a1 : Int) (a2 : Int) (σ : ZS) (post : ZS → Prop) : Prop :=
  (isSe o) ∧
  (InR (σ o 4)) ∧
  ((0 ≤ (σ o 4) →
    (0 ≤ (σ o 4)) ∧
    ∀ v4_4 : Int, v4_4 = (σ o 4) % 3 →
    ∀ σ5 : ZS, σ5 = zst σ o 4 (-1) →
    (InR v4_4) ∧
    ((¬ v4_4 = 1 →
      wc_X8_take_123 o post a1 v4_4 σ5
    ) ∧
    (v4_4 = 1 →
      (InR a1) ∧
      ((¬ a1 = 30 →
        wc_X8_take_123 o post a1 v4_4 σ5
      ) ∧
      (a1 = 30 →
        (InR (σ5 o 5)) ∧
        (((σ5 o 5) ≤ 0 →
          ∀ σ12 : ZS, σ12 = zst σ5 o 5 128 →
          post σ12
        ) ∧
        (0 < (σ5 o 5) →
          False
        ))
      ))
    ))
  ) ∧
  ((σ o 4) < 0 →
    (InR a1) ∧
    ((3 ≤ a1 →
      ((¬ a1 = 3 →
        ((14 ≤ a1 →
          (InR (σ o 3)) ∧
          (((σ o 3) = 0 →
            wc_X8_take_68 o post 51 a1 σ
          ) ∧
          (¬ (σ o 3) = 0 →
            wc_X8_take_68 o post 83 a1 σ
          ))
        ) ∧
        (a1 < 14 →
          wc_X8_take_69 o post (a1 + 44) σ
        ))
      ) ∧
      (a1 = 3 →
        wc_X8_take_69 o post 32 σ
      ))
    ) ∧
    (a1 < 3 →
      (InR a2) ∧
      ((a2 = 0 →
        wc_X8_take_24 o post a1 σ
      ) ∧
      (¬ a2 = 0 →
        wc_X8_take_24 o post (a1 + 3) σ
      ))
    ))
  ))
/- X8_take -/
def wx_X8_take_123 (o : Nat) (post : ZS → Prop) (v2 : Int) (v4 : Int) (σ : ZS) : Prop :=
  ((
    wc_X8_shifted o v4 v2 σ (fun r2 σ1 => 
    wc_X8_tells o r2 σ1 (fun σ3 => 
    False))
  ) ∨
  (wx_X8_shifted o v4 v2 σ post))
def wx_X8_take_69 (o : Nat) (post : ZS → Prop) (t0 : Int) (σ : ZS) : Prop :=
  wc_X8_tells o t0 σ (fun σ1 => 
  False)
def wx_X8_take_68 (o : Nat) (post : ZS → Prop) (t0 : Int) (t1 : Int) (σ : ZS) : Prop :=
  wx_X8_take_69 o post (t1 + t0) σ
def wx_X8_take_24 (o : Nat) (post : ZS → Prop) (t0 : Int) (σ : ZS) : Prop :=
  ∀ σ1 : ZS, σ1 = zst σ o 4 t0 →
  False
def wx_X8_take (o : Nat) (a1 : Int) (a2 : Int) (σ : ZS) (post : ZS → Prop) : Prop :=
  (isSe o) ∧
  (InR (σ o 4)) ∧
  ((0 ≤ (σ o 4) →
    (0 ≤ (σ o 4)) ∧
    ∀ v4_4 : Int, v4_4 = (σ o 4) % 3 →
    ∀ σ5 : ZS, σ5 = zst σ o 4 (-1) →
    (InR v4_4) ∧
    ((¬ v4_4 = 1 →
      wx_X8_take_123 o post a1 v4_4 σ5
    ) ∧
    (v4_4 = 1 →
      (InR a1) ∧
      ((¬ a1 = 30 →
        wx_X8_take_123 o post a1 v4_4 σ5
      ) ∧
      (a1 = 30 →
        (InR (σ5 o 5)) ∧
        (((σ5 o 5) ≤ 0 →
          ∀ σ12 : ZS, σ12 = zst σ5 o 5 128 →
          False
        ) ∧
        (0 < (σ5 o 5) →
          post σ5
        ))
      ))
    ))
  ) ∧
  ((σ o 4) < 0 →
    (InR a1) ∧
    ((3 ≤ a1 →
      ((¬ a1 = 3 →
        ((14 ≤ a1 →
          (InR (σ o 3)) ∧
          (((σ o 3) = 0 →
            wx_X8_take_68 o post 51 a1 σ
          ) ∧
          (¬ (σ o 3) = 0 →
            wx_X8_take_68 o post 83 a1 σ
          ))
        ) ∧
        (a1 < 14 →
          wx_X8_take_69 o post (a1 + 44) σ
        ))
      ) ∧
      (a1 = 3 →
        wx_X8_take_69 o post 32 σ
      ))
    ) ∧
    (a1 < 3 →
      (InR a2) ∧
      ((a2 = 0 →
        wx_X8_take_24 o post a1 σ
      ) ∧
      (¬ a2 = 0 →
        wx_X8_take_24 o post (a1 + 3) σ
      ))
    ))
  ))
/- X8_end -/
def wc_X8_end_22 (o : Nat) (post : ZS → Prop) (σ : ZS) : Prop :=
  False
def wc_X8_end (o : Nat) (σ : ZS) (post : ZS → Prop) : Prop :=
  (isSe o) ∧
  (InR (σ o 5)) ∧
  ((0 < (σ o 5) →
    wc_X8_end_22 o post σ
  ) ∧
  ((σ o 5) ≤ 0 →
    (InR (σ o 4)) ∧
    (((σ o 4) < 0 →
      post σ
    ) ∧
    (0 ≤ (σ o 4) →
      (((σ o 4) = 3 →
        post σ
      ) ∧
      (¬ (σ o 4) = 3 →
        wc_X8_end_22 o post σ
      ))
    ))
  ))
/- X8_end -/
def wx_X8_end_22 (o : Nat) (post : ZS → Prop) (σ : ZS) : Prop :=
  post σ
def wx_X8_end (o : Nat) (σ : ZS) (post : ZS → Prop) : Prop :=
  (isSe o) ∧
  (InR (σ o 5)) ∧
  ((0 < (σ o 5) →
    wx_X8_end_22 o post σ
  ) ∧
  ((σ o 5) ≤ 0 →
    (InR (σ o 4)) ∧
    (((σ o 4) < 0 →
      False
    ) ∧
    (0 ≤ (σ o 4) →
      (((σ o 4) = 3 →
        False
      ) ∧
      (¬ (σ o 4) = 3 →
        wx_X8_end_22 o post σ
      ))
    ))
  ))
/- X7_read -/
def wv_Th_end (o : Nat) (σ : ZS) (post : ZS → Prop) : Prop :=
  (isSe o → wc_X8_end o σ post) ∧
  (o = 59 → wc_X9_end  σ post)
def wv_Th_take (o : Nat) (a1 : Int) (a2 : Int) (σ : ZS) (post : ZS → Prop) : Prop :=
  (isSe o → wc_X8_take o a1 a2 σ post) ∧
  (o = 59 → wc_X9_take a1 a2 σ post)
def wv_Th_begin (o : Nat) (σ : ZS) (post : ZS → Prop) : Prop :=
  (isSe o → wc_X8_begin o σ post) ∧
  (o = 59 → wc_X9_begin  σ post)
def wc_X7_read_95 (o : Nat) (post : ZS → Prop) (σ : ZS) : Prop :=
  wv_Th_end o σ (fun σ1 => 
  post σ1)
def wc_X7_read_50 (o : Nat) (post : ZS → Prop) (σ : ZS) : Prop :=
  False
def wbc_X7_read_4 (o : Nat) (post : ZS → Prop) (C4 : ZS → Prop) : ZS → Prop := fun (σ) =>
  wc_X4_left σ (fun r2 σ1 => 
  (InR r2) ∧
  ((r2 < 2 →
    wc_X7_read_95 o post σ1
  ) ∧
  (2 ≤ r2 →
    wc_X4_next σ1 (fun r6 σ5 => 
    (InR r6) ∧
    ((¬ r6 = 254 →
      wc_X4_next σ5 (fun r10 σ9 => 
      ∀ v3_11 : Int, v3_11 = ((256 * r6) + r10) - 1 →
      (InR v3_11) ∧
      ((v3_11 < 0 →
        wc_X7_read_50 o post σ9
      ) ∧
      (0 ≤ v3_11 →
        ((v3_11 < 64000 →
          (0 ≤ v3_11) ∧
          wv_Th_take o (v3_11 / 1600) 0 σ9 (fun σ16 => 
          (InR (v3_11 / 40)) ∧
          (0 ≤ (v3_11 / 40)) ∧
          wv_Th_take o ((v3_11 / 40) % 40) 0 σ16 (fun σ19 => 
          wv_Th_take o (v3_11 % 40) 1 σ19 (fun σ20 => 
          C4 (σ20))))
        ) ∧
        (64000 ≤ v3_11 →
          wc_X7_read_50 o post σ9
        ))
      )))
    ) ∧
    (r6 = 254 →
      wc_X7_read_95 o post σ5
    )))
  )))
def wc_X7_read (o : Nat) (σ : ZS) (post : ZS → Prop) : Prop :=
  (isTh o) ∧
  wv_Th_begin o σ (fun σ1 => 
  ∃ N : Nat, zfix (wbc_X7_read_4 o post) N (σ1))
/- X7_read -/
def wvx_Th_end (o : Nat) (σ : ZS) (post : ZS → Prop) : Prop :=
  (isSe o → wx_X8_end o σ post) ∧
  (o = 59 → False)
def wvx_Th_take (o : Nat) (a1 : Int) (a2 : Int) (σ : ZS) (post : ZS → Prop) : Prop :=
  (isSe o → wx_X8_take o a1 a2 σ post) ∧
  (o = 59 → False)
def wx_X7_read_95 (o : Nat) (post : ZS → Prop) (σ : ZS) : Prop :=
  ((
    wv_Th_end o σ (fun σ1 => 
    False)
  ) ∨
  (wvx_Th_end o σ post))
def wx_X7_read_50 (o : Nat) (post : ZS → Prop) (σ : ZS) : Prop :=
  post σ
def wbx_X7_read_4 (o : Nat) (post : ZS → Prop) (C4 : ZS → Prop) : ZS → Prop := fun (σ) =>
  wc_X4_left σ (fun r2 σ1 => 
  (InR r2) ∧
  ((r2 < 2 →
    wx_X7_read_95 o post σ1
  ) ∧
  (2 ≤ r2 →
    ((
      wc_X4_next σ1 (fun r6 σ5 => 
      (InR r6) ∧
      ((¬ r6 = 254 →
        ((
          wc_X4_next σ5 (fun r10 σ9 => 
          ∀ v3_11 : Int, v3_11 = ((256 * r6) + r10) - 1 →
          (InR v3_11) ∧
          ((v3_11 < 0 →
            wx_X7_read_50 o post σ9
          ) ∧
          (0 ≤ v3_11 →
            ((v3_11 < 64000 →
              (0 ≤ v3_11) ∧
              ((
                wv_Th_take o (v3_11 / 1600) 0 σ9 (fun σ16 => 
                (InR (v3_11 / 40)) ∧
                (0 ≤ (v3_11 / 40)) ∧
                ((
                  wv_Th_take o ((v3_11 / 40) % 40) 0 σ16 (fun σ19 => 
                  ((
                    wv_Th_take o (v3_11 % 40) 1 σ19 (fun σ20 => 
                    C4 (σ20))
                  ) ∨
                  (wvx_Th_take o (v3_11 % 40) 1 σ19 post)))
                ) ∨
                (wvx_Th_take o ((v3_11 / 40) % 40) 0 σ16 post)))
              ) ∨
              (wvx_Th_take o (v3_11 / 1600) 0 σ9 post))
            ) ∧
            (64000 ≤ v3_11 →
              wx_X7_read_50 o post σ9
            ))
          )))
        ) ∨
        (wx_X4_next σ5 post))
      ) ∧
      (r6 = 254 →
        wx_X7_read_95 o post σ5
      )))
    ) ∨
    (wx_X4_next σ1 post))
  )))
def wx_X7_read (o : Nat) (σ : ZS) (post : ZS → Prop) : Prop :=
  (isTh o) ∧
  wv_Th_begin o σ (fun σ1 => 
  ∃ N : Nat, zfix (wbx_X7_read_4 o post) N (σ1))
/- X10_ends -/
def wc_X10_ends (a1 : Int) (a2 : Int) (a3 : Int) (σ : ZS) (post : ZS → Prop) : Prop :=
  (InR (((6 * a3) + 6) + 7)) ∧
  (0 ≤ (((6 * a3) + 6) + 7)) ∧
  ∀ v5_3 : Int, v5_3 = (((6 * a3) + 6) + 7) / 8 →
  ∀ v6_4 : Int, v6_4 = ((8 * v5_3) - (6 * a3)) - 6 →
  (InR (zand (zshr a2 (24 - (8 * v5_3))) ((zshl 1 v6_4) - 1))) ∧
  (((zand (zshr a2 (24 - (8 * v5_3))) ((zshl 1 v6_4) - 1)) = 0 →
    ∀ σ7 : ZS, σ7 = zst σ 45 3 (a1 + v5_3) →
    post σ7
  ) ∧
  (¬ (zand (zshr a2 (24 - (8 * v5_3))) ((zshl 1 v6_4) - 1)) = 0 →
    False
  ))
/- X10_ends -/
def wx_X10_ends (a1 : Int) (a2 : Int) (a3 : Int) (σ : ZS) (post : ZS → Prop) : Prop :=
  (InR (((6 * a3) + 6) + 7)) ∧
  (0 ≤ (((6 * a3) + 6) + 7)) ∧
  ∀ v5_3 : Int, v5_3 = (((6 * a3) + 6) + 7) / 8 →
  ∀ v6_4 : Int, v6_4 = ((8 * v5_3) - (6 * a3)) - 6 →
  (InR (zand (zshr a2 (24 - (8 * v5_3))) ((zshl 1 v6_4) - 1))) ∧
  (((zand (zshr a2 (24 - (8 * v5_3))) ((zshl 1 v6_4) - 1)) = 0 →
    ∀ σ7 : ZS, σ7 = zst σ 45 3 (a1 + v5_3) →
    False
  ) ∧
  (¬ (zand (zshr a2 (24 - (8 * v5_3))) ((zshl 1 v6_4) - 1)) = 0 →
    post σ
  ))
/- X10_read -/
def wc_X10_read_97 (C0 : ZS → Prop) (C41 : Int × Int × Int × ZS → Prop) (post : ZS → Prop) (v2 : Int) (v3 : Int) (v4 : Int) (t0 : Int) (σ : ZS) : Prop :=
  wc_X4_tell t0 σ (fun σ1 => 
  C41 (v2, v3, v4 + 1, σ1))
def wbc_X10_read_41 (C0 : ZS → Prop) (post : ZS → Prop) (C41 : Int × Int × Int × ZS → Prop) : Int × Int × Int × ZS → Prop := fun (v2, v3, v4, σ) =>
  (InR v4) ∧
  ((4 ≤ v4 →
    C0 (σ)
  ) ∧
  (v4 < 4 →
    ∀ v5_3 : Int, v5_3 = (zshr v3 (18 - (6 * v4))) % 64 →
    (InR v5_3) ∧
    ((¬ v5_3 = 31 →
      ((31 ≤ v5_3 →
        wc_X10_read_97 C0 C41 post v2 v3 v4 v5_3 σ
      ) ∧
      (v5_3 < 31 →
        wc_X10_read_97 C0 C41 post v2 v3 v4 (v5_3 + 64) σ
      ))
    ) ∧
    (v5_3 = 31 →
      wc_X10_ends v2 v3 v4 σ (fun σ7 => 
      post σ7)
    ))
  ))
def wbc_X10_read_0 (post : ZS → Prop) (C0 : ZS → Prop) : ZS → Prop := fun (σ) =>
  wc_X4_left σ (fun r2 σ1 => 
  (InR r2) ∧
  ((r2 < 3 →
    post σ1
  ) ∧
  (3 ≤ r2 →
    ∀ v2_5 : Int, v2_5 = σ1 45 3 →
    wc_X4_next σ1 (fun r7 σ6 => 
    ∀ v3_8 : Int, v3_8 = r7 * 65536 →
    wc_X4_next σ6 (fun r10 σ9 => 
    ∀ v3_11 : Int, v3_11 = zor v3_8 (r10 * 256) →
    wc_X4_next σ9 (fun r13 σ12 => 
    ∀ v3_14 : Int, v3_14 = zor v3_11 r13 →
    ∃ N : Nat, zfix (wbc_X10_read_41 C0 post) N (v2_5, v3_14, 0, σ12))))
  )))
def wc_X10_read (σ : ZS) (post : ZS → Prop) : Prop :=
  ∃ N : Nat, zfix (wbc_X10_read_0 post) N (σ)
/- X10_read -/
def wx_X10_read_97 (C0 : ZS → Prop) (C41 : Int × Int × Int × ZS → Prop) (post : ZS → Prop) (v2 : Int) (v3 : Int) (v4 : Int) (t0 : Int) (σ : ZS) : Prop :=
  wc_X4_tell t0 σ (fun σ1 => 
  C41 (v2, v3, v4 + 1, σ1))
def wbx_X10_read_41 (C0 : ZS → Prop) (post : ZS → Prop) (C41 : Int × Int × Int × ZS → Prop) : Int × Int × Int × ZS → Prop := fun (v2, v3, v4, σ) =>
  (InR v4) ∧
  ((4 ≤ v4 →
    C0 (σ)
  ) ∧
  (v4 < 4 →
    ∀ v5_3 : Int, v5_3 = (zshr v3 (18 - (6 * v4))) % 64 →
    (InR v5_3) ∧
    ((¬ v5_3 = 31 →
      ((31 ≤ v5_3 →
        wx_X10_read_97 C0 C41 post v2 v3 v4 v5_3 σ
      ) ∧
      (v5_3 < 31 →
        wx_X10_read_97 C0 C41 post v2 v3 v4 (v5_3 + 64) σ
      ))
    ) ∧
    (v5_3 = 31 →
      ((
        wc_X10_ends v2 v3 v4 σ (fun σ7 => 
        False)
      ) ∨
      (wx_X10_ends v2 v3 v4 σ post))
    ))
  ))
def wbx_X10_read_0 (post : ZS → Prop) (C0 : ZS → Prop) : ZS → Prop := fun (σ) =>
  wc_X4_left σ (fun r2 σ1 => 
  (InR r2) ∧
  ((r2 < 3 →
    False
  ) ∧
  (3 ≤ r2 →
    ∀ v2_5 : Int, v2_5 = σ1 45 3 →
    ((
      wc_X4_next σ1 (fun r7 σ6 => 
      ∀ v3_8 : Int, v3_8 = r7 * 65536 →
      ((
        wc_X4_next σ6 (fun r10 σ9 => 
        ∀ v3_11 : Int, v3_11 = zor v3_8 (r10 * 256) →
        ((
          wc_X4_next σ9 (fun r13 σ12 => 
          ∀ v3_14 : Int, v3_14 = zor v3_11 r13 →
          ∃ N : Nat, zfix (wbx_X10_read_41 C0 post) N (v2_5, v3_14, 0, σ12))
        ) ∨
        (wx_X4_next σ9 post)))
      ) ∨
      (wx_X4_next σ6 post)))
    ) ∨
    (wx_X4_next σ1 post))
  )))
def wx_X10_read (σ : ZS) (post : ZS → Prop) : Prop :=
  ∃ N : Nat, zfix (wbx_X10_read_0 post) N (σ)
/- X11_told -/
def wc_X11_told (σ : ZS) (post : Int → ZS → Prop) : Prop :=
  wc_X4_next σ (fun r2 σ1 => 
  wc_X11_mask (σ1 45 3) σ1 (fun r4 σ3 => 
  post ((r2 - r4) % 256) σ3))
/- X11_told -/
def wx_X11_told (σ : ZS) (post : ZS → Prop) : Prop :=
  ((
    wc_X4_next σ (fun r2 σ1 => 
    wc_X11_mask (σ1 45 3) σ1 (fun r4 σ3 => 
    False))
  ) ∨
  (wx_X4_next σ post))
/- X11_read -/
def wbc_X11_read_45 (post : ZS → Prop) (C45 : Int × Int × ZS → Prop) : Int × Int × ZS → Prop := fun (v3, v4, σ) =>
  (InR v4) ∧
  (InR v3) ∧
  ((v3 ≤ v4 →
    post σ
  ) ∧
  (v4 < v3 →
    wc_X11_told σ (fun r5 σ4 => 
    wc_X4_tell r5 σ4 (fun σ6 => 
    C45 (v3, v4 + 1, σ6)))
  ))
def wc_X11_read_41 (post : ZS → Prop) (t0 : Int) (σ : ZS) : Prop :=
  ∃ N : Nat, zfix (wbc_X11_read_45 post) N (t0, 0, σ)
def wc_X11_read (σ : ZS) (post : ZS → Prop) : Prop :=
  wc_X11_told σ (fun r2 σ1 => 
  (InR r2) ∧
  ((¬ r2 = 0 →
    ((249 < r2 →
      wc_X11_told σ1 (fun r7 σ6 => 
      wc_X11_read_41 post ((250 * (r2 - 249)) + r7) σ6)
    ) ∧
    (r2 ≤ 249 →
      wc_X11_read_41 post r2 σ1
    ))
  ) ∧
  (r2 = 0 →
    wc_X4_left σ1 (fun r9 σ8 => 
    wc_X11_read_41 post r9 σ8)
  )))
/- X11_read -/
def wbx_X11_read_45 (post : ZS → Prop) (C45 : Int × Int × ZS → Prop) : Int × Int × ZS → Prop := fun (v3, v4, σ) =>
  (InR v4) ∧
  (InR v3) ∧
  ((v3 ≤ v4 →
    False
  ) ∧
  (v4 < v3 →
    ((
      wc_X11_told σ (fun r5 σ4 => 
      wc_X4_tell r5 σ4 (fun σ6 => 
      C45 (v3, v4 + 1, σ6)))
    ) ∨
    (wx_X11_told σ post))
  ))
def wx_X11_read_41 (post : ZS → Prop) (t0 : Int) (σ : ZS) : Prop :=
  ∃ N : Nat, zfix (wbx_X11_read_45 post) N (t0, 0, σ)
def wx_X11_read (σ : ZS) (post : ZS → Prop) : Prop :=
  ((
    wc_X11_told σ (fun r2 σ1 => 
    (InR r2) ∧
    ((¬ r2 = 0 →
      ((249 < r2 →
        ((
          wc_X11_told σ1 (fun r7 σ6 => 
          wx_X11_read_41 post ((250 * (r2 - 249)) + r7) σ6)
        ) ∨
        (wx_X11_told σ1 post))
      ) ∧
      (r2 ≤ 249 →
        wx_X11_read_41 post r2 σ1
      ))
    ) ∧
    (r2 = 0 →
      wc_X4_left σ1 (fun r9 σ8 => 
      wx_X11_read_41 post r9 σ8)
    )))
  ) ∨
  (wx_X11_told σ post))
/- X4_latched -/
def wbc_X4_latched_2 (post : Nat → ZS → Prop) (C2 : Int × Int × ZS → Prop) : Int × Int × ZS → Prop := fun (v1, v2, σ) =>
  (InR v2) ∧
  (InR (σ 51 2)) ∧
  (((σ 51 2) ≤ v2 →
    False
  ) ∧
  (v2 < (σ 51 2) →
    (0 ≤ v2 ∧ v2 < 5) ∧
    (v2 < σ 51 2) ∧
    (InR (latchOf σ (encC v2))) ∧
    (InR v1) ∧
    ((¬ (latchOf σ (encC v2)) = v1 →
      C2 (v1, v2 + 1, σ)
    ) ∧
    ((latchOf σ (encC v2)) = v1 →
      (v2 < σ 51 2) ∧
      post (encC v2) σ
    ))
  ))
def wc_X4_latched (a1 : Int) (σ : ZS) (post : Nat → ZS → Prop) : Prop :=
  ∃ N : Nat, zfix (wbc_X4_latched_2 post) N (a1, 0, σ)
/- X4_latched -/
def wbx_X4_latched_2 (post : ZS → Prop) (C2 : Int × Int × ZS → Prop) : Int × Int × ZS → Prop := fun (v1, v2, σ) =>
  (InR v2) ∧
  (InR (σ 51 2)) ∧
  (((σ 51 2) ≤ v2 →
    post σ
  ) ∧
  (v2 < (σ 51 2) →
    (0 ≤ v2 ∧ v2 < 5) ∧
    (v2 < σ 51 2) ∧
    (InR (latchOf σ (encC v2))) ∧
    (InR v1) ∧
    ((¬ (latchOf σ (encC v2)) = v1 →
      C2 (v1, v2 + 1, σ)
    ) ∧
    ((latchOf σ (encC v2)) = v1 →
      (v2 < σ 51 2) ∧
      False
    ))
  ))
def wx_X4_latched (a1 : Int) (σ : ZS) (post : ZS → Prop) : Prop :=
  ∃ N : Nat, zfix (wbx_X4_latched_2 post) N (a1, 0, σ)
/- X4_read -/
def wv_En_read (o : Nat) (σ : ZS) (post : ZS → Prop) : Prop :=
  (isSe o → wc_X7_read o σ post) ∧
  (o = 59 → wc_X7_read o σ post) ∧
  (o = 62 → wc_X10_read  σ post) ∧
  (o = 64 → wc_X11_read  σ post)
def wc_X4_read_156 (post : ZS → Prop) (σ : ZS) : Prop :=
  False
def wc_X4_read_132 (C0 : ZS → Prop) (post : ZS → Prop) (v2 : Int) (σ : ZS) : Prop :=
  (InR v2) ∧
  ((¬ v2 = 235 →
    wc_X4_latched v2 σ (fun r4 σ3 => 
    (isEn r4) ∧
    wv_En_read r4 σ3 (fun σ5 => 
    C0 (σ5)))
  ) ∧
  (v2 = 235 →
    wc_X4_next σ (fun r7 σ6 => 
    (InR r7) ∧
    ((r7 < 1 →
      wc_X4_read_156 post σ6
    ) ∧
    (1 ≤ r7 →
      ((r7 ≤ 128 →
        wc_X4_tell (r7 + 127) σ6 (fun σ11 => 
        C0 (σ11))
      ) ∧
      (128 < r7 →
        wc_X4_read_156 post σ6
      ))
    )))
  ))
def wc_X4_read_85 (C0 : ZS → Prop) (post : ZS → Prop) (v2 : Int) (σ : ZS) : Prop :=
  (InR v2) ∧
  ((v2 < 130 →
    wc_X4_read_132 C0 post v2 σ
  ) ∧
  (130 ≤ v2 →
    ((229 < v2 →
      wc_X4_read_132 C0 post v2 σ
    ) ∧
    (v2 ≤ 229 →
      (InR (v2 - 130)) ∧
      (0 ≤ (v2 - 130)) ∧
      wc_X4_tell (48 + ((v2 - 130) / 10)) σ (fun σ6 => 
      wc_X4_tell (48 + ((v2 - 130) % 10)) σ6 (fun σ7 => 
      C0 (σ7)))
    ))
  ))
def wbc_X4_read_23 (C0 : ZS → Prop) (post : ZS → Prop) (C23 : ZS → Prop) : ZS → Prop := fun (σ) =>
  (InR (σ 45 3)) ∧
  (InR (σ 45 2)) ∧
  (((σ 45 2) ≤ (σ 45 3) →
    C0 (σ)
  ) ∧
  ((σ 45 3) < (σ 45 2) →
    wc_X4_pad ((σ 45 3) + 1) σ (fun r5 σ4 => 
    wc_X4_next σ4 (fun r7 σ6 => 
    (InR r7) ∧
    (InR r5) ∧
    ((r7 = r5 →
      C23 (σ6)
    ) ∧
    (¬ r7 = r5 →
      False
    ))))
  ))
def wbc_X4_read_0 (post : ZS → Prop) (C0 : ZS → Prop) : ZS → Prop := fun (σ) =>
  (InR (σ 45 3)) ∧
  (InR (σ 45 2)) ∧
  (((σ 45 2) ≤ (σ 45 3) →
    post σ
  ) ∧
  ((σ 45 3) < (σ 45 2) →
    wc_X4_next σ (fun r5 σ4 => 
    (InR r5) ∧
    ((¬ r5 = 129 →
      ((r5 < 1 →
        wc_X4_read_85 C0 post r5 σ4
      ) ∧
      (1 ≤ r5 →
        ((128 < r5 →
          wc_X4_read_85 C0 post r5 σ4
        ) ∧
        (r5 ≤ 128 →
          wc_X4_tell (r5 - 1) σ4 (fun σ10 => 
          C0 (σ10))
        ))
      ))
    ) ∧
    (r5 = 129 →
      ∃ N : Nat, zfix (wbc_X4_read_23 C0 post) N (σ4)
    )))
  ))
def wc_X4_read (σ : ZS) (post : ZS → Prop) : Prop :=
  ∃ N : Nat, zfix (wbc_X4_read_0 post) N (σ)
/- X4_read -/
def wvx_En_read (o : Nat) (σ : ZS) (post : ZS → Prop) : Prop :=
  (isSe o → wx_X7_read o σ post) ∧
  (o = 59 → wx_X7_read o σ post) ∧
  (o = 62 → wx_X10_read  σ post) ∧
  (o = 64 → wx_X11_read  σ post)
def wx_X4_read_156 (post : ZS → Prop) (σ : ZS) : Prop :=
  post σ
def wx_X4_read_132 (C0 : ZS → Prop) (post : ZS → Prop) (v2 : Int) (σ : ZS) : Prop :=
  (InR v2) ∧
  ((¬ v2 = 235 →
    ((
      wc_X4_latched v2 σ (fun r4 σ3 => 
      (isEn r4) ∧
      ((
        wv_En_read r4 σ3 (fun σ5 => 
        C0 (σ5))
      ) ∨
      (wvx_En_read r4 σ3 post)))
    ) ∨
    (wx_X4_latched v2 σ post))
  ) ∧
  (v2 = 235 →
    ((
      wc_X4_next σ (fun r7 σ6 => 
      (InR r7) ∧
      ((r7 < 1 →
        wx_X4_read_156 post σ6
      ) ∧
      (1 ≤ r7 →
        ((r7 ≤ 128 →
          wc_X4_tell (r7 + 127) σ6 (fun σ11 => 
          C0 (σ11))
        ) ∧
        (128 < r7 →
          wx_X4_read_156 post σ6
        ))
      )))
    ) ∨
    (wx_X4_next σ post))
  ))
def wx_X4_read_85 (C0 : ZS → Prop) (post : ZS → Prop) (v2 : Int) (σ : ZS) : Prop :=
  (InR v2) ∧
  ((v2 < 130 →
    wx_X4_read_132 C0 post v2 σ
  ) ∧
  (130 ≤ v2 →
    ((229 < v2 →
      wx_X4_read_132 C0 post v2 σ
    ) ∧
    (v2 ≤ 229 →
      (InR (v2 - 130)) ∧
      (0 ≤ (v2 - 130)) ∧
      wc_X4_tell (48 + ((v2 - 130) / 10)) σ (fun σ6 => 
      wc_X4_tell (48 + ((v2 - 130) % 10)) σ6 (fun σ7 => 
      C0 (σ7)))
    ))
  ))
def wbx_X4_read_23 (C0 : ZS → Prop) (post : ZS → Prop) (C23 : ZS → Prop) : ZS → Prop := fun (σ) =>
  (InR (σ 45 3)) ∧
  (InR (σ 45 2)) ∧
  (((σ 45 2) ≤ (σ 45 3) →
    C0 (σ)
  ) ∧
  ((σ 45 3) < (σ 45 2) →
    wc_X4_pad ((σ 45 3) + 1) σ (fun r5 σ4 => 
    ((
      wc_X4_next σ4 (fun r7 σ6 => 
      (InR r7) ∧
      (InR r5) ∧
      ((r7 = r5 →
        C23 (σ6)
      ) ∧
      (¬ r7 = r5 →
        post σ6
      )))
    ) ∨
    (wx_X4_next σ4 post)))
  ))
def wbx_X4_read_0 (post : ZS → Prop) (C0 : ZS → Prop) : ZS → Prop := fun (σ) =>
  (InR (σ 45 3)) ∧
  (InR (σ 45 2)) ∧
  (((σ 45 2) ≤ (σ 45 3) →
    False
  ) ∧
  ((σ 45 3) < (σ 45 2) →
    ((
      wc_X4_next σ (fun r5 σ4 => 
      (InR r5) ∧
      ((¬ r5 = 129 →
        ((r5 < 1 →
          wx_X4_read_85 C0 post r5 σ4
        ) ∧
        (1 ≤ r5 →
          ((128 < r5 →
            wx_X4_read_85 C0 post r5 σ4
          ) ∧
          (r5 ≤ 128 →
            wc_X4_tell (r5 - 1) σ4 (fun σ10 => 
            C0 (σ10))
          ))
        ))
      ) ∧
      (r5 = 129 →
        ∃ N : Nat, zfix (wbx_X4_read_23 C0 post) N (σ4)
      )))
    ) ∨
    (wx_X4_next σ post))
  ))
def wx_X4_read (σ : ZS) (post : ZS → Prop) : Prop :=
  ∃ N : Nat, zfix (wbx_X4_read_0 post) N (σ)
/- X4_next -/
set_option maxRecDepth 100000 in
theorem mtc_X4_next (l : Launch) (D : va_G) (ds : Nat → ClassId) (ad : Nat → Nat) (σ : ZS) (post : Int → ZS → Prop) (h : wc_X4_next  σ post) : ZMetI l (ΘC D ds ad) yX4_next cX4_next 1 .int 5 104 0 0 [.ref (ad 45)] σ post := by
  refine ZMetI.of (by decide) (Nat.le_of_ble_eq_true rfl) (fun Γ X K hR => ?_)
  have X : ZX Γ cX4_next RX4 5 104 := X
  refine z_sub [0] (lv' := [(0, .ref (ad 45))]) rfl ?_
  refine z_aload_n X 0 dX4_next_0 rfl ?_
  refine gC_X4_23_X4 X K (Or.inl rfl) dX4_next_1 ?_
  refine z_aload_n X 0 dX4_next_4 rfl ?_
  refine gC_X4_19_X4 X K (Or.inl rfl) dX4_next_5 ?_
  obtain ⟨i1, h⟩ := h
  obtain ⟨i2, h⟩ := h
  refine z_icmp_ne X 19 dX4_next_8 rfl i1 i2 (fun c3 => ?_) (fun c3 => ?_)
  · have h := h.1 c3
    refine z_aload_n X 0 dX4_next_19 rfl ?_
    refine gC_X4_9_X4 X K (Or.inl rfl) dX4_next_20 ?_
    refine z_aload_n X 0 dX4_next_23 rfl ?_
    refine z_dup X dX4_next_24 rfl ?_
    refine gC_X4_23_X4 X K (Or.inl rfl) dX4_next_25 ?_
    refine z_dup_x1 X dX4_next_28 rfl rfl ?_
    refine z_iconst X 1 dX4_next_29 ?_
    refine z_iadd X dX4_next_30 ?_
    refine pC_X4_23_X4 X K (Or.inl rfl) dX4_next_31 (fun σ4 eσ4 => ?_)
    have h := h σ4 eσ4
    obtain ⟨x5, h⟩ := h
    refine z_ald' X K 46 (Nat.le_of_ble_eq_true rfl) rfl rfl (Nat.le_of_ble_eq_true rfl) dX4_next_34 x5 ?_
    exact hR _ _ _ _ _ _ _ dX4_next_35 rfl (Nat.le_refl 0) (Nat.le_refl 0) h
  · have h := h.2 c3
    exact h.elim
/- X4_next -/
set_option maxRecDepth 100000 in
theorem mtx_X4_next (l : Launch) (D : va_G) (ds : Nat → ClassId) (ad : Nat → Nat) (σ : ZS) (post : ZS → Prop) (h : wx_X4_next  σ post) : ZMetX l (ΘC D ds ad) yX4_next cX4_next 1 (some .int) 5 104 [.ref (ad 45)] σ post := by
  refine ZMetX.of (by decide) (Nat.le_of_ble_eq_true rfl) (fun Γ X K hR => ?_)
  have X : ZX Γ cX4_next RX4 5 104 := X
  refine z_sub [0] (lv' := [(0, .ref (ad 45))]) rfl ?_
  refine z_aload_n X 0 dX4_next_0 rfl ?_
  refine gC_X4_23_X4 X K (Or.inl rfl) dX4_next_1 ?_
  refine z_aload_n X 0 dX4_next_4 rfl ?_
  refine gC_X4_19_X4 X K (Or.inl rfl) dX4_next_5 ?_
  obtain ⟨i1, h⟩ := h
  obtain ⟨i2, h⟩ := h
  refine z_icmp_ne X 19 dX4_next_8 rfl i1 i2 (fun c3 => ?_) (fun c3 => ?_)
  · have h := h.1 c3
    refine z_aload_n X 0 dX4_next_19 rfl ?_
    refine gC_X4_9_X4 X K (Or.inl rfl) dX4_next_20 ?_
    refine z_aload_n X 0 dX4_next_23 rfl ?_
    refine z_dup X dX4_next_24 rfl ?_
    refine gC_X4_23_X4 X K (Or.inl rfl) dX4_next_25 ?_
    refine z_dup_x1 X dX4_next_28 rfl rfl ?_
    refine z_iconst X 1 dX4_next_29 ?_
    refine z_iadd X dX4_next_30 ?_
    refine pC_X4_23_X4 X K (Or.inl rfl) dX4_next_31 (fun σ4 eσ4 => ?_)
    have h := h σ4 eσ4
    obtain ⟨x5, h⟩ := h
    refine z_ald' X K 46 (Nat.le_of_ble_eq_true rfl) rfl rfl (Nat.le_of_ble_eq_true rfl) dX4_next_34 x5 ?_
    exact h.elim
  · have h := h.2 c3
    exact z_throwNS q995 q1004 X K rfl dX4_next_11 dX4_next_14 dX4_next_15 dX4_next_18 (Nat.le_of_ble_eq_true rfl) ⟨Nat.le_refl 1, Nat.le_refl 6⟩ (fun q => hR _ _ _ _ _ _ _ q (Nat.le_refl 1) (Nat.le_refl 6) h)
/- X8_shifted -/
set_option maxRecDepth 100000 in
theorem wkc_X8_shifted_65 {Γ : ZG} {l : Launch} {D : va_G} {ds : Nat → ClassId} {ad : Nat → Nat} {post : Int → ZS → Prop} {o : Nat} (X : ZX Γ cX8_shifted RX8 5 104) (K : ZCap Γ l (ΘC D ds ad) 3 0 0) (hR : ZRetI Γ cX8_shifted .int 0 0 post) (ho : isSe o) (σ : ZS) (h : wc_X8_shifted_65 o post σ) : Z Γ 0 0 σ [] 65 [] [] := by
  exact h.elim
set_option maxRecDepth 100000 in
theorem wkc_X8_shifted_54 {Γ : ZG} {l : Launch} {D : va_G} {ds : Nat → ClassId} {ad : Nat → Nat} {post : Int → ZS → Prop} {o : Nat} (X : ZX Γ cX8_shifted RX8 5 104) (K : ZCap Γ l (ΘC D ds ad) 3 0 0) (hR : ZRetI Γ cX8_shifted .int 0 0 post) (ho : isSe o) (v1 : Int) (v2 : Int) (σ : ZS) (h : wc_X8_shifted_54 o post v1 v2 σ) : Z Γ 0 0 σ [] 54 [(0, .ref (ad o)), (1, .int (iz v1)), (2, .int (iz v2))] [] := by
  refine z_iload_n X 1 dX8_shifted_54 rfl ?_
  refine z_iconst X 2 dX8_shifted_55 ?_
  obtain ⟨i1, h⟩ := h
  refine z_icmp_ne X 65 dX8_shifted_56 rfl i1 (by decide) (fun c2 => ?_) (fun c2 => ?_)
  · have h := h.1 c2
    exact z_sub [] rfl (wkc_X8_shifted_65 X K hR ho _ h)
  · have h := h.2 c2
    refine z_iload_n X 2 dX8_shifted_59 rfl ?_
    refine z_bipush X 32 dX8_shifted_60 rfl ?_
    obtain ⟨i3, h⟩ := h
    refine z_icmp_lt X 73 dX8_shifted_62 rfl i3 (by decide) (fun c4 => ?_) (fun c4 => ?_)
    · have h := h.1 c4
      refine z_aload_n X 0 dX8_shifted_73 rfl ?_
      refine gC_X8_15_X8 X K ho dX8_shifted_74 ?_
      obtain ⟨i5, h⟩ := h
      refine z_if_ne X 87 dX8_shifted_77 rfl i5 (fun c6 => ?_) (fun c6 => ?_)
      · have h := h.1 c6
        refine z_iload_n X 2 dX8_shifted_87 rfl ?_
        refine z_if_ne X 96 dX8_shifted_88 rfl i3 (fun c7 => ?_) (fun c7 => ?_)
        · have h := h.1 c7
          refine z_iload_n X 2 dX8_shifted_96 rfl ?_
          refine z_bipush X 27 dX8_shifted_97 rfl ?_
          refine z_icmp_ge X 109 dX8_shifted_99 rfl i3 (by decide) (fun c8 => ?_) (fun c8 => ?_)
          · have h := h.1 c8
            refine z_iload_n X 2 dX8_shifted_109 rfl ?_
            refine z_bipush X 96 dX8_shifted_110 rfl ?_
            refine z_iadd X dX8_shifted_112 ?_
            exact hR _ _ _ _ _ _ _ dX8_shifted_113 rfl (Nat.le_refl 0) (Nat.le_refl 0) h
          · have h := h.2 c8
            refine z_iload_n X 2 dX8_shifted_102 rfl ?_
            refine z_bipush X 64 dX8_shifted_103 rfl ?_
            refine z_iadd X dX8_shifted_105 ?_
            refine z_goto (tgt := 113) X dX8_shifted_106 rfl ?_
            exact hR _ _ _ _ _ _ _ dX8_shifted_113 rfl (Nat.le_refl 0) (Nat.le_refl 0) h
        · have h := h.2 c7
          refine z_bipush X 96 dX8_shifted_91 rfl ?_
          refine z_goto (tgt := 113) X dX8_shifted_93 rfl ?_
          exact hR _ _ _ _ _ _ _ dX8_shifted_113 rfl (Nat.le_refl 0) (Nat.le_refl 0) h
      · have h := h.2 c6
        refine z_iload_n X 2 dX8_shifted_80 rfl ?_
        refine z_bipush X 96 dX8_shifted_81 rfl ?_
        refine z_iadd X dX8_shifted_83 ?_
        refine z_goto (tgt := 113) X dX8_shifted_84 rfl ?_
        exact hR _ _ _ _ _ _ _ dX8_shifted_113 rfl (Nat.le_refl 0) (Nat.le_refl 0) h
    · have h := h.2 c4
      exact z_sub [] rfl (wkc_X8_shifted_65 X K hR ho _ h)
set_option maxRecDepth 100000 in
theorem wkc_X8_shifted_12 {Γ : ZG} {l : Launch} {D : va_G} {ds : Nat → ClassId} {ad : Nat → Nat} {post : Int → ZS → Prop} {o : Nat} (X : ZX Γ cX8_shifted RX8 5 104) (K : ZCap Γ l (ΘC D ds ad) 3 0 0) (hR : ZRetI Γ cX8_shifted .int 0 0 post) (ho : isSe o) (v1 : Int) (v2 : Int) (σ : ZS) (h : wc_X8_shifted_12 o post v1 v2 σ) : Z Γ 0 0 σ [] 12 [(0, .ref (ad o)), (1, .int (iz v1)), (2, .int (iz v2))] [] := by
  refine z_iload_n X 1 dX8_shifted_12 rfl ?_
  refine z_iconst X 1 dX8_shifted_13 ?_
  obtain ⟨i1, h⟩ := h
  refine z_icmp_ne X 54 dX8_shifted_14 rfl i1 (by decide) (fun c2 => ?_) (fun c2 => ?_)
  · have h := h.1 c2
    exact z_sub [0, 1, 2] rfl (wkc_X8_shifted_54 X K hR ho _ _ _ h)
  · have h := h.2 c2
    refine z_iload_n X 2 dX8_shifted_17 rfl ?_
    refine z_bipush X 27 dX8_shifted_18 rfl ?_
    obtain ⟨i3, h⟩ := h
    refine z_icmp_ge X 54 dX8_shifted_20 rfl i3 (by decide) (fun c4 => ?_) (fun c4 => ?_)
    · have h := h.1 c4
      exact z_sub [0, 1, 2] rfl (wkc_X8_shifted_54 X K hR ho _ _ _ h)
    · have h := h.2 c4
      refine z_iload_n X 2 dX8_shifted_23 rfl ?_
      refine z_bipush X 15 dX8_shifted_24 rfl ?_
      refine z_icmp_ge X 36 dX8_shifted_26 rfl i3 (by decide) (fun c5 => ?_) (fun c5 => ?_)
      · have h := h.1 c5
        refine z_iload_n X 2 dX8_shifted_36 rfl ?_
        refine z_bipush X 22 dX8_shifted_37 rfl ?_
        refine z_icmp_ge X 49 dX8_shifted_39 rfl i3 (by decide) (fun c6 => ?_) (fun c6 => ?_)
        · have h := h.1 c6
          refine z_iload_n X 2 dX8_shifted_49 rfl ?_
          refine z_bipush X 69 dX8_shifted_50 rfl ?_
          refine z_iadd X dX8_shifted_52 ?_
          exact hR _ _ _ _ _ _ _ dX8_shifted_53 rfl (Nat.le_refl 0) (Nat.le_refl 0) h
        · have h := h.2 c6
          refine z_iload_n X 2 dX8_shifted_42 rfl ?_
          refine z_bipush X 43 dX8_shifted_43 rfl ?_
          refine z_iadd X dX8_shifted_45 ?_
          refine z_goto (tgt := 53) X dX8_shifted_46 rfl ?_
          exact hR _ _ _ _ _ _ _ dX8_shifted_53 rfl (Nat.le_refl 0) (Nat.le_refl 0) h
      · have h := h.2 c5
        refine z_iload_n X 2 dX8_shifted_29 rfl ?_
        refine z_bipush X 33 dX8_shifted_30 rfl ?_
        refine z_iadd X dX8_shifted_32 ?_
        refine z_goto (tgt := 53) X dX8_shifted_33 rfl ?_
        exact hR _ _ _ _ _ _ _ dX8_shifted_53 rfl (Nat.le_refl 0) (Nat.le_refl 0) h
set_option maxRecDepth 100000 in
theorem mtc_X8_shifted (l : Launch) (D : va_G) (ds : Nat → ClassId) (ad : Nat → Nat) (o : Nat) (a0 : Int) (a1 : Int) (σ : ZS) (post : Int → ZS → Prop) (h : wc_X8_shifted o a0 a1 σ post) : ZMetI l (ΘC D ds ad) yX8_shifted cX8_shifted 3 .int 5 104 0 0 [.ref (ad o), .int (iz a0), .int (iz a1)] σ post := by
  refine ZMetI.of (by decide) (Nat.le_of_ble_eq_true rfl) (fun Γ X K hR => ?_)
  have X : ZX Γ cX8_shifted RX8 5 104 := X
  refine z_sub [0, 1, 2] (lv' := [(0, .ref (ad o)), (1, .int (iz a0)), (2, .int (iz a1))]) rfl ?_
  obtain ⟨ho, h⟩ := h
  refine z_iload_n X 1 dX8_shifted_0 rfl ?_
  obtain ⟨i1, h⟩ := h
  refine z_if_ne X 12 dX8_shifted_1 rfl i1 (fun c2 => ?_) (fun c2 => ?_)
  · have h := h.1 c2
    exact z_sub [0, 1, 2] rfl (wkc_X8_shifted_12 X K hR ho _ _ _ h)
  · have h := h.2 c2
    refine z_iload_n X 2 dX8_shifted_4 rfl ?_
    refine z_bipush X 32 dX8_shifted_5 rfl ?_
    obtain ⟨i3, h⟩ := h
    refine z_icmp_ge X 12 dX8_shifted_7 rfl i3 (by decide) (fun c4 => ?_) (fun c4 => ?_)
    · have h := h.1 c4
      exact z_sub [0, 1, 2] rfl (wkc_X8_shifted_12 X K hR ho _ _ _ h)
    · have h := h.2 c4
      refine z_iload_n X 2 dX8_shifted_10 rfl ?_
      exact hR _ _ _ _ _ _ _ dX8_shifted_11 rfl (Nat.le_refl 0) (Nat.le_refl 0) h
/- X8_shifted -/
set_option maxRecDepth 100000 in
theorem wkx_X8_shifted_65 {Γ : ZG} {l : Launch} {D : va_G} {ds : Nat → ClassId} {ad : Nat → Nat} {post : ZS → Prop} {o : Nat} (X : ZX Γ cX8_shifted RX8 5 104) (K : ZCap Γ l (ΘC D ds ad) 3 1 6) (hR : ZOut Γ post) (ho : isSe o) (σ : ZS) (h : wx_X8_shifted_65 o post σ) : Z Γ 0 0 σ [] 65 [] [] := by
  exact z_throwNS q1083 q1084 X K rfl dX8_shifted_65 dX8_shifted_68 dX8_shifted_69 dX8_shifted_72 (Nat.le_of_ble_eq_true rfl) ⟨Nat.le_refl 1, Nat.le_refl 6⟩ (fun q => hR _ _ _ _ _ _ _ q (Nat.le_refl 1) (Nat.le_refl 6) h)
set_option maxRecDepth 100000 in
theorem wkx_X8_shifted_54 {Γ : ZG} {l : Launch} {D : va_G} {ds : Nat → ClassId} {ad : Nat → Nat} {post : ZS → Prop} {o : Nat} (X : ZX Γ cX8_shifted RX8 5 104) (K : ZCap Γ l (ΘC D ds ad) 3 1 6) (hR : ZOut Γ post) (ho : isSe o) (v1 : Int) (v2 : Int) (σ : ZS) (h : wx_X8_shifted_54 o post v1 v2 σ) : Z Γ 0 0 σ [] 54 [(0, .ref (ad o)), (1, .int (iz v1)), (2, .int (iz v2))] [] := by
  refine z_iload_n X 1 dX8_shifted_54 rfl ?_
  refine z_iconst X 2 dX8_shifted_55 ?_
  obtain ⟨i1, h⟩ := h
  refine z_icmp_ne X 65 dX8_shifted_56 rfl i1 (by decide) (fun c2 => ?_) (fun c2 => ?_)
  · have h := h.1 c2
    exact z_sub [] rfl (wkx_X8_shifted_65 X K hR ho _ h)
  · have h := h.2 c2
    refine z_iload_n X 2 dX8_shifted_59 rfl ?_
    refine z_bipush X 32 dX8_shifted_60 rfl ?_
    obtain ⟨i3, h⟩ := h
    refine z_icmp_lt X 73 dX8_shifted_62 rfl i3 (by decide) (fun c4 => ?_) (fun c4 => ?_)
    · have h := h.1 c4
      refine z_aload_n X 0 dX8_shifted_73 rfl ?_
      refine gC_X8_15_X8 X K ho dX8_shifted_74 ?_
      obtain ⟨i5, h⟩ := h
      refine z_if_ne X 87 dX8_shifted_77 rfl i5 (fun c6 => ?_) (fun c6 => ?_)
      · have h := h.1 c6
        refine z_iload_n X 2 dX8_shifted_87 rfl ?_
        refine z_if_ne X 96 dX8_shifted_88 rfl i3 (fun c7 => ?_) (fun c7 => ?_)
        · have h := h.1 c7
          refine z_iload_n X 2 dX8_shifted_96 rfl ?_
          refine z_bipush X 27 dX8_shifted_97 rfl ?_
          refine z_icmp_ge X 109 dX8_shifted_99 rfl i3 (by decide) (fun c8 => ?_) (fun c8 => ?_)
          · have h := h.1 c8
            refine z_iload_n X 2 dX8_shifted_109 rfl ?_
            refine z_bipush X 96 dX8_shifted_110 rfl ?_
            refine z_iadd X dX8_shifted_112 ?_
            exact h.elim
          · have h := h.2 c8
            refine z_iload_n X 2 dX8_shifted_102 rfl ?_
            refine z_bipush X 64 dX8_shifted_103 rfl ?_
            refine z_iadd X dX8_shifted_105 ?_
            refine z_goto (tgt := 113) X dX8_shifted_106 rfl ?_
            exact h.elim
        · have h := h.2 c7
          refine z_bipush X 96 dX8_shifted_91 rfl ?_
          refine z_goto (tgt := 113) X dX8_shifted_93 rfl ?_
          exact h.elim
      · have h := h.2 c6
        refine z_iload_n X 2 dX8_shifted_80 rfl ?_
        refine z_bipush X 96 dX8_shifted_81 rfl ?_
        refine z_iadd X dX8_shifted_83 ?_
        refine z_goto (tgt := 113) X dX8_shifted_84 rfl ?_
        exact h.elim
    · have h := h.2 c4
      exact z_sub [] rfl (wkx_X8_shifted_65 X K hR ho _ h)
set_option maxRecDepth 100000 in
theorem wkx_X8_shifted_12 {Γ : ZG} {l : Launch} {D : va_G} {ds : Nat → ClassId} {ad : Nat → Nat} {post : ZS → Prop} {o : Nat} (X : ZX Γ cX8_shifted RX8 5 104) (K : ZCap Γ l (ΘC D ds ad) 3 1 6) (hR : ZOut Γ post) (ho : isSe o) (v1 : Int) (v2 : Int) (σ : ZS) (h : wx_X8_shifted_12 o post v1 v2 σ) : Z Γ 0 0 σ [] 12 [(0, .ref (ad o)), (1, .int (iz v1)), (2, .int (iz v2))] [] := by
  refine z_iload_n X 1 dX8_shifted_12 rfl ?_
  refine z_iconst X 1 dX8_shifted_13 ?_
  obtain ⟨i1, h⟩ := h
  refine z_icmp_ne X 54 dX8_shifted_14 rfl i1 (by decide) (fun c2 => ?_) (fun c2 => ?_)
  · have h := h.1 c2
    exact z_sub [0, 1, 2] rfl (wkx_X8_shifted_54 X K hR ho _ _ _ h)
  · have h := h.2 c2
    refine z_iload_n X 2 dX8_shifted_17 rfl ?_
    refine z_bipush X 27 dX8_shifted_18 rfl ?_
    obtain ⟨i3, h⟩ := h
    refine z_icmp_ge X 54 dX8_shifted_20 rfl i3 (by decide) (fun c4 => ?_) (fun c4 => ?_)
    · have h := h.1 c4
      exact z_sub [0, 1, 2] rfl (wkx_X8_shifted_54 X K hR ho _ _ _ h)
    · have h := h.2 c4
      refine z_iload_n X 2 dX8_shifted_23 rfl ?_
      refine z_bipush X 15 dX8_shifted_24 rfl ?_
      refine z_icmp_ge X 36 dX8_shifted_26 rfl i3 (by decide) (fun c5 => ?_) (fun c5 => ?_)
      · have h := h.1 c5
        refine z_iload_n X 2 dX8_shifted_36 rfl ?_
        refine z_bipush X 22 dX8_shifted_37 rfl ?_
        refine z_icmp_ge X 49 dX8_shifted_39 rfl i3 (by decide) (fun c6 => ?_) (fun c6 => ?_)
        · have h := h.1 c6
          refine z_iload_n X 2 dX8_shifted_49 rfl ?_
          refine z_bipush X 69 dX8_shifted_50 rfl ?_
          refine z_iadd X dX8_shifted_52 ?_
          exact h.elim
        · have h := h.2 c6
          refine z_iload_n X 2 dX8_shifted_42 rfl ?_
          refine z_bipush X 43 dX8_shifted_43 rfl ?_
          refine z_iadd X dX8_shifted_45 ?_
          refine z_goto (tgt := 53) X dX8_shifted_46 rfl ?_
          exact h.elim
      · have h := h.2 c5
        refine z_iload_n X 2 dX8_shifted_29 rfl ?_
        refine z_bipush X 33 dX8_shifted_30 rfl ?_
        refine z_iadd X dX8_shifted_32 ?_
        refine z_goto (tgt := 53) X dX8_shifted_33 rfl ?_
        exact h.elim
set_option maxRecDepth 100000 in
theorem mtx_X8_shifted (l : Launch) (D : va_G) (ds : Nat → ClassId) (ad : Nat → Nat) (o : Nat) (a0 : Int) (a1 : Int) (σ : ZS) (post : ZS → Prop) (h : wx_X8_shifted o a0 a1 σ post) : ZMetX l (ΘC D ds ad) yX8_shifted cX8_shifted 3 (some .int) 5 104 [.ref (ad o), .int (iz a0), .int (iz a1)] σ post := by
  refine ZMetX.of (by decide) (Nat.le_of_ble_eq_true rfl) (fun Γ X K hR => ?_)
  have X : ZX Γ cX8_shifted RX8 5 104 := X
  refine z_sub [0, 1, 2] (lv' := [(0, .ref (ad o)), (1, .int (iz a0)), (2, .int (iz a1))]) rfl ?_
  obtain ⟨ho, h⟩ := h
  refine z_iload_n X 1 dX8_shifted_0 rfl ?_
  obtain ⟨i1, h⟩ := h
  refine z_if_ne X 12 dX8_shifted_1 rfl i1 (fun c2 => ?_) (fun c2 => ?_)
  · have h := h.1 c2
    exact z_sub [0, 1, 2] rfl (wkx_X8_shifted_12 X K hR ho _ _ _ h)
  · have h := h.2 c2
    refine z_iload_n X 2 dX8_shifted_4 rfl ?_
    refine z_bipush X 32 dX8_shifted_5 rfl ?_
    obtain ⟨i3, h⟩ := h
    refine z_icmp_ge X 12 dX8_shifted_7 rfl i3 (by decide) (fun c4 => ?_) (fun c4 => ?_)
    · have h := h.1 c4
      exact z_sub [0, 1, 2] rfl (wkx_X8_shifted_12 X K hR ho _ _ _ h)
    · have h := h.2 c4
      refine z_iload_n X 2 dX8_shifted_10 rfl ?_
      exact h.elim
/- X8_take -/
theorem clc_X8_35_X8 {Γ : ZG} {cc : ByteArray} {fr lo nL mc0 ms0 k n pc : Nat} {xs : va_W} {lv : List (Nat × Value)} {st : List Value} {l : Launch} {D : va_G} {ds : Nat → ClassId} {ad : Nat → Nat} {a0 : Int} {a1 : Int} {σ : ZS} {post : Int → ZS → Prop} (X : ZX Γ cc RX8 fr lo) (K : ZCap Γ l (ΘC D ds ad) nL mc0 ms0) {o : Nat} (ho : isSe o) (hrm : zroom 6 126 fr lo = true) (h : wc_X8_shifted o a0 a1 σ post) (hst : (st.map fun v => v.category).sum ≤ 8) (d : decode cc pc = .ok (.invokevirtual 35, 3)) (hcs : k ≤ mc0 ∧ n ≤ ms0) (kk : ∀ (r : Int) (σ' : ZS), post r σ' → Z Γ k n σ' xs (pc + 3) lv (.int (iz r) :: st)) : Z Γ k n σ xs pc lv (.int (iz a1) :: .int (iz a0) :: .ref (ad o) :: st) := by
  rcases ho with rfl | rfl
  · exact z_callVI' (C := RX8) (q0 := 53) X K (mtc_X8_shifted l D ds ad 53 a0 a1 σ post h) (Nat.le_of_ble_eq_true rfl) rfl rfl rfl (lw_V q1085 q1087 qs33 q118 q1088) ⟨rfl, by decide, by decide, rfl⟩ (zroom_of (zroom_le hrm (by decide))) ⟨by rw [K.2.2.2.1]; exact hcs.1, by rw [K.2.2.2.2]; exact hcs.2⟩ hst d rfl kk
  · exact z_callVI' (C := RX8) (q0 := 56) X K (mtc_X8_shifted l D ds ad 56 a0 a1 σ post h) (Nat.le_of_ble_eq_true rfl) rfl rfl rfl (lw_V q1085 q1087 qs33 q118 q1088) ⟨rfl, by decide, by decide, rfl⟩ (zroom_of (zroom_le hrm (by decide))) ⟨by rw [K.2.2.2.1]; exact hcs.1, by rw [K.2.2.2.2]; exact hcs.2⟩ hst d rfl kk
theorem clc_X8_26_X8 {Γ : ZG} {cc : ByteArray} {fr lo nL mc0 ms0 k n pc : Nat} {xs : va_W} {lv : List (Nat × Value)} {st : List Value} {l : Launch} {D : va_G} {ds : Nat → ClassId} {ad : Nat → Nat} {a1 : Int} {σ : ZS} {post : ZS → Prop} (X : ZX Γ cc RX8 fr lo) (K : ZCap Γ l (ΘC D ds ad) nL mc0 ms0) {o : Nat} (ho : isSe o) (hrm : zroom 4 67 fr lo = true) (h : wc_X8_tells o a1 σ post) (hst : (st.map fun v => v.category).sum ≤ 8) (d : decode cc pc = .ok (.invokevirtual 26, 3)) (hcs : k ≤ mc0 ∧ n ≤ ms0) (kk : ∀ (σ' : ZS), post σ' → Z Γ k n σ' xs (pc + 3) lv (st)) : Z Γ k n σ xs pc lv (.int (iz a1) :: .ref (ad 45) :: .ref (ad o) :: st) := by
  rcases ho with rfl | rfl
  · exact z_callVV' (C := RX8) (q0 := 53) X K (mtc_X8_tells l D ds ad 53 a1 σ post h) (Nat.le_of_ble_eq_true rfl) rfl rfl rfl (lw_V q1078 q1080 qs32 q118 q1081) ⟨rfl, by decide, by decide, rfl⟩ (zroom_of (zroom_le hrm (by decide))) ⟨by rw [K.2.2.2.1]; exact hcs.1, by rw [K.2.2.2.2]; exact hcs.2⟩ hst d rfl kk
  · exact z_callVV' (C := RX8) (q0 := 56) X K (mtc_X8_tells l D ds ad 56 a1 σ post h) (Nat.le_of_ble_eq_true rfl) rfl rfl rfl (lw_V q1078 q1080 qs32 q118 q1081) ⟨rfl, by decide, by decide, rfl⟩ (zroom_of (zroom_le hrm (by decide))) ⟨by rw [K.2.2.2.1]; exact hcs.1, by rw [K.2.2.2.2]; exact hcs.2⟩ hst d rfl kk
set_option maxRecDepth 100000 in
theorem wkc_X8_take_123 {Γ : ZG} {l : Launch} {D : va_G} {ds : Nat → ClassId} {ad : Nat → Nat} {post : ZS → Prop} {o : Nat} (X : ZX Γ cX8_take RX8 6 126) (K : ZCap Γ l (ΘC D ds ad) 5 0 0) (hR : ZRetV Γ cX8_take 0 0 post) (ho : isSe o) (v2 : Int) (v4 : Int) (σ : ZS) (h : wc_X8_take_123 o post v2 v4 σ) : Z Γ 0 0 σ [] 123 [(0, .ref (ad o)), (1, .ref (ad 45)), (2, .int (iz v2)), (4, .int (iz v4))] [] := by
  refine z_aload_n X 0 dX8_take_123 rfl ?_
  refine z_aload_n X 1 dX8_take_124 rfl ?_
  refine z_aload_n X 0 dX8_take_125 rfl ?_
  refine z_iload X 3 dX8_take_126 rfl ?_
  refine z_iload_n X 2 dX8_take_128 rfl ?_
  refine clc_X8_35_X8 X K ho rfl h (Nat.le_of_ble_eq_true rfl) dX8_take_129 ⟨Nat.zero_le _, Nat.zero_le _⟩ (fun r2 σ1 h => ?_)
  refine clc_X8_26_X8 X K ho rfl h (Nat.le_of_ble_eq_true rfl) dX8_take_132 ⟨Nat.zero_le _, Nat.zero_le _⟩ (fun σ3 h => ?_)
  exact hR _ _ _ _ _ _ dX8_take_135 (Nat.le_refl 0) (Nat.le_refl 0) h
set_option maxRecDepth 100000 in
theorem wkc_X8_take_69 {Γ : ZG} {l : Launch} {D : va_G} {ds : Nat → ClassId} {ad : Nat → Nat} {post : ZS → Prop} {o : Nat} (X : ZX Γ cX8_take RX8 6 126) (K : ZCap Γ l (ΘC D ds ad) 5 0 0) (hR : ZRetV Γ cX8_take 0 0 post) (ho : isSe o) (t0 : Int) (σ : ZS) (h : wc_X8_take_69 o post t0 σ) : Z Γ 0 0 σ [] 69 [] [.int (iz t0), .ref (ad 45), .ref (ad o)] := by
  refine clc_X8_26_X8 X K ho rfl h (Nat.le_of_ble_eq_true rfl) dX8_take_69 ⟨Nat.zero_le _, Nat.zero_le _⟩ (fun σ1 h => ?_)
  exact hR _ _ _ _ _ _ dX8_take_72 (Nat.le_refl 0) (Nat.le_refl 0) h
set_option maxRecDepth 100000 in
theorem wkc_X8_take_68 {Γ : ZG} {l : Launch} {D : va_G} {ds : Nat → ClassId} {ad : Nat → Nat} {post : ZS → Prop} {o : Nat} (X : ZX Γ cX8_take RX8 6 126) (K : ZCap Γ l (ΘC D ds ad) 5 0 0) (hR : ZRetV Γ cX8_take 0 0 post) (ho : isSe o) (t0 : Int) (t1 : Int) (σ : ZS) (h : wc_X8_take_68 o post t0 t1 σ) : Z Γ 0 0 σ [] 68 [] [.int (iz t0), .int (iz t1), .ref (ad 45), .ref (ad o)] := by
  refine z_iadd X dX8_take_68 ?_
  exact z_sub [] rfl (wkc_X8_take_69 X K hR ho _ _ h)
set_option maxRecDepth 100000 in
theorem wkc_X8_take_24 {Γ : ZG} {l : Launch} {D : va_G} {ds : Nat → ClassId} {ad : Nat → Nat} {post : ZS → Prop} {o : Nat} (X : ZX Γ cX8_take RX8 6 126) (K : ZCap Γ l (ΘC D ds ad) 5 0 0) (hR : ZRetV Γ cX8_take 0 0 post) (ho : isSe o) (t0 : Int) (σ : ZS) (h : wc_X8_take_24 o post t0 σ) : Z Γ 0 0 σ [] 24 [] [.int (iz t0), .ref (ad o)] := by
  refine pC_X8_19_X8 X K ho dX8_take_24 (fun σ1 eσ1 => ?_)
  have h := h σ1 eσ1
  exact hR _ _ _ _ _ _ dX8_take_27 (Nat.le_refl 0) (Nat.le_refl 0) h
set_option maxRecDepth 100000 in
theorem mtc_X8_take (l : Launch) (D : va_G) (ds : Nat → ClassId) (ad : Nat → Nat) (o : Nat) (a1 : Int) (a2 : Int) (σ : ZS) (post : ZS → Prop) (h : wc_X8_take o a1 a2 σ post) : ZMetV l (ΘC D ds ad) yX8_take cX8_take 5 6 126 0 0 [.ref (ad o), .ref (ad 45), .int (iz a1), .int (iz a2)] σ post := by
  refine ZMetV.of (by decide) (Nat.le_of_ble_eq_true rfl) (fun Γ X K hR => ?_)
  have X : ZX Γ cX8_take RX8 6 126 := X
  refine z_sub [0, 1, 2, 3] (lv' := [(0, .ref (ad o)), (1, .ref (ad 45)), (2, .int (iz a1)), (3, .int (iz a2))]) rfl ?_
  obtain ⟨ho, h⟩ := h
  refine z_aload_n X 0 dX8_take_0 rfl ?_
  refine gC_X8_19_X8 X K ho dX8_take_1 ?_
  obtain ⟨i1, h⟩ := h
  refine z_if_ge X 73 dX8_take_4 rfl i1 (fun c2 => ?_) (fun c2 => ?_)
  · have h := h.1 c2
    refine z_aload_n X 0 dX8_take_73 rfl ?_
    refine gC_X8_19_X8 X K ho dX8_take_74 ?_
    refine z_iconst X 3 dX8_take_77 ?_
    obtain ⟨g3, h⟩ := h
    refine z_irem X dX8_take_78 ⟨i1, (by decide), g3, (by decide)⟩ ?_
    refine z_topi (fun v4_4 ev4_4 => ?_)
    have h := h v4_4 ev4_4
    refine z_istoreK X K (lv' := [(4, .int (iz v4_4)), (0, .ref (ad o)), (1, .ref (ad 45)), (2, .int (iz a1)), (3, .int (iz a2))]) dX8_take_79 rfl rfl ?_
    refine z_aload_n X 1 dX8_take_81 rfl ?_
    refine z_iconst X (-1) dX8_take_82 ?_
    refine pC_X8_19_X8 X K ho dX8_take_83 (fun σ5 eσ5 => ?_)
    have h := h σ5 eσ5
    refine z_iload X 0 dX8_take_86 rfl ?_
    refine z_iconst X 1 dX8_take_88 ?_
    obtain ⟨i6, h⟩ := h
    refine z_icmp_ne X 123 dX8_take_89 rfl i6 (by decide) (fun c7 => ?_) (fun c7 => ?_)
    · have h := h.1 c7
      exact z_sub [1, 2, 3, 0] rfl (wkc_X8_take_123 X K hR ho _ _ _ h)
    · have h := h.2 c7
      refine z_iload_n X 3 dX8_take_92 rfl ?_
      refine z_bipush X 30 dX8_take_93 rfl ?_
      obtain ⟨i8, h⟩ := h
      refine z_icmp_ne X 123 dX8_take_95 rfl i8 (by decide) (fun c9 => ?_) (fun c9 => ?_)
      · have h := h.1 c9
        exact z_sub [1, 2, 3, 0] rfl (wkc_X8_take_123 X K hR ho _ _ _ h)
      · have h := h.2 c9
        refine z_aload_n X 1 dX8_take_98 rfl ?_
        refine gC_X8_23_X8 X K ho dX8_take_99 ?_
        obtain ⟨i10, h⟩ := h
        refine z_if_le X 113 dX8_take_102 rfl i10 (fun c11 => ?_) (fun c11 => ?_)
        · have h := h.1 c11
          refine z_aload_n X 1 dX8_take_113 rfl ?_
          refine z_sipush X 128 dX8_take_114 rfl ?_
          refine pC_X8_23_X8 X K ho dX8_take_117 (fun σ12 eσ12 => ?_)
          have h := h σ12 eσ12
          refine z_goto (tgt := 135) X dX8_take_120 rfl ?_
          exact hR _ _ _ _ _ _ dX8_take_135 (Nat.le_refl 0) (Nat.le_refl 0) h
        · have h := h.2 c11
          exact h.elim
  · have h := h.2 c2
    refine z_iload_n X 2 dX8_take_7 rfl ?_
    refine z_iconst X 3 dX8_take_8 ?_
    obtain ⟨i13, h⟩ := h
    refine z_icmp_ge X 28 dX8_take_9 rfl i13 (by decide) (fun c14 => ?_) (fun c14 => ?_)
    · have h := h.1 c14
      refine z_aload_n X 0 dX8_take_28 rfl ?_
      refine z_aload_n X 1 dX8_take_29 rfl ?_
      refine z_iload_n X 2 dX8_take_30 rfl ?_
      refine z_iconst X 3 dX8_take_31 ?_
      refine z_icmp_ne X 40 dX8_take_32 rfl i13 (by decide) (fun c15 => ?_) (fun c15 => ?_)
      · have h := h.1 c15
        refine z_iload_n X 2 dX8_take_40 rfl ?_
        refine z_bipush X 14 dX8_take_41 rfl ?_
        refine z_icmp_ge X 53 dX8_take_43 rfl i13 (by decide) (fun c16 => ?_) (fun c16 => ?_)
        · have h := h.1 c16
          refine z_iload_n X 2 dX8_take_53 rfl ?_
          refine z_aload_n X 0 dX8_take_54 rfl ?_
          refine gC_X8_15_X8 X K ho dX8_take_55 ?_
          obtain ⟨i17, h⟩ := h
          refine z_if_eq X 66 dX8_take_58 rfl i17 (fun c18 => ?_) (fun c18 => ?_)
          · have h := h.1 c18
            refine z_bipush X 51 dX8_take_66 rfl ?_
            exact z_sub [] rfl (wkc_X8_take_68 X K hR ho _ _ _ h)
          · have h := h.2 c18
            refine z_bipush X 83 dX8_take_61 rfl ?_
            refine z_goto (tgt := 68) X dX8_take_63 rfl ?_
            exact z_sub [] rfl (wkc_X8_take_68 X K hR ho _ _ _ h)
        · have h := h.2 c16
          refine z_iload_n X 2 dX8_take_46 rfl ?_
          refine z_bipush X 44 dX8_take_47 rfl ?_
          refine z_iadd X dX8_take_49 ?_
          refine z_goto (tgt := 69) X dX8_take_50 rfl ?_
          exact z_sub [] rfl (wkc_X8_take_69 X K hR ho _ _ h)
      · have h := h.2 c15
        refine z_bipush X 32 dX8_take_35 rfl ?_
        refine z_goto (tgt := 69) X dX8_take_37 rfl ?_
        exact z_sub [] rfl (wkc_X8_take_69 X K hR ho _ _ h)
    · have h := h.2 c14
      refine z_aload_n X 0 dX8_take_12 rfl ?_
      refine z_iload_n X 3 dX8_take_13 rfl ?_
      obtain ⟨i19, h⟩ := h
      refine z_if_eq X 23 dX8_take_14 rfl i19 (fun c20 => ?_) (fun c20 => ?_)
      · have h := h.1 c20
        refine z_iload_n X 2 dX8_take_23 rfl ?_
        exact z_sub [] rfl (wkc_X8_take_24 X K hR ho _ _ h)
      · have h := h.2 c20
        refine z_iload_n X 2 dX8_take_17 rfl ?_
        refine z_iconst X 3 dX8_take_18 ?_
        refine z_iadd X dX8_take_19 ?_
        refine z_goto (tgt := 24) X dX8_take_20 rfl ?_
        exact z_sub [] rfl (wkc_X8_take_24 X K hR ho _ _ h)
/- X8_take -/
theorem clx_X8_35_X8 {Γ : ZG} {cc : ByteArray} {fr lo nL mc0 ms0 k n pc : Nat} {xs : va_W} {lv : List (Nat × Value)} {st : List Value} {l : Launch} {D : va_G} {ds : Nat → ClassId} {ad : Nat → Nat} {a0 : Int} {a1 : Int} {σ : ZS} {post : ZS → Prop} (X : ZX Γ cc RX8 fr lo) (K : ZCap Γ l (ΘC D ds ad) nL mc0 ms0) {o : Nat} (ho : isSe o) (hrm : zroom 6 126 fr lo = true) (h : wx_X8_shifted o a0 a1 σ post) (hst : (st.map fun v => v.category).sum ≤ 8) (d : decode cc pc = .ok (.invokevirtual 35, 3)) (hcs : k + 1 ≤ mc0 ∧ n + 6 ≤ ms0) (kk : ∀ (σ' : ZS) (q : Nat), post σ' → ZThrow Γ (k + 1) (n + 6) σ' xs pc lv st q) : Z Γ k n σ xs pc lv (.int (iz a1) :: .int (iz a0) :: .ref (ad o) :: st) := by
  rcases ho with rfl | rfl
  · exact z_callVX' (C := RX8) (q0 := 53) X K (mtx_X8_shifted l D ds ad 53 a0 a1 σ post h) (Nat.le_of_ble_eq_true rfl) rfl rfl rfl (lw_V q1085 q1087 qs33 q118 q1088) ⟨rfl, by decide, by decide, rfl⟩ (zroom_of (zroom_le hrm (by decide))) ⟨by rw [K.2.2.2.1]; exact hcs.1, by rw [K.2.2.2.2]; exact hcs.2⟩ hst d rfl kk
  · exact z_callVX' (C := RX8) (q0 := 56) X K (mtx_X8_shifted l D ds ad 56 a0 a1 σ post h) (Nat.le_of_ble_eq_true rfl) rfl rfl rfl (lw_V q1085 q1087 qs33 q118 q1088) ⟨rfl, by decide, by decide, rfl⟩ (zroom_of (zroom_le hrm (by decide))) ⟨by rw [K.2.2.2.1]; exact hcs.1, by rw [K.2.2.2.2]; exact hcs.2⟩ hst d rfl kk
set_option maxRecDepth 100000 in
theorem wkx_X8_take_123 {Γ : ZG} {l : Launch} {D : va_G} {ds : Nat → ClassId} {ad : Nat → Nat} {post : ZS → Prop} {o : Nat} (X : ZX Γ cX8_take RX8 6 126) (K : ZCap Γ l (ΘC D ds ad) 5 1 6) (hR : ZOut Γ post) (ho : isSe o) (v2 : Int) (v4 : Int) (σ : ZS) (h : wx_X8_take_123 o post v2 v4 σ) : Z Γ 0 0 σ [] 123 [(0, .ref (ad o)), (1, .ref (ad 45)), (2, .int (iz v2)), (4, .int (iz v4))] [] := by
  refine z_aload_n X 0 dX8_take_123 rfl ?_
  refine z_aload_n X 1 dX8_take_124 rfl ?_
  refine z_aload_n X 0 dX8_take_125 rfl ?_
  refine z_iload X 3 dX8_take_126 rfl ?_
  refine z_iload_n X 2 dX8_take_128 rfl ?_
  rcases h with h | h
  · refine clc_X8_35_X8 X K ho rfl h (Nat.le_of_ble_eq_true rfl) dX8_take_129 ⟨Nat.zero_le _, Nat.zero_le _⟩ (fun r2 σ1 h => ?_)
    refine clc_X8_26_X8 X K ho rfl h (Nat.le_of_ble_eq_true rfl) dX8_take_132 ⟨Nat.zero_le _, Nat.zero_le _⟩ (fun σ3 h => ?_)
    exact h.elim
  · exact clx_X8_35_X8 X K ho rfl h (Nat.le_of_ble_eq_true rfl) dX8_take_129 ⟨Nat.le_refl 1, Nat.le_refl 6⟩ (fun _ q h => hR _ _ _ _ _ _ _ q (Nat.le_refl 1) (Nat.le_refl 6) h)
set_option maxRecDepth 100000 in
theorem wkx_X8_take_69 {Γ : ZG} {l : Launch} {D : va_G} {ds : Nat → ClassId} {ad : Nat → Nat} {post : ZS → Prop} {o : Nat} (X : ZX Γ cX8_take RX8 6 126) (K : ZCap Γ l (ΘC D ds ad) 5 1 6) (hR : ZOut Γ post) (ho : isSe o) (t0 : Int) (σ : ZS) (h : wx_X8_take_69 o post t0 σ) : Z Γ 0 0 σ [] 69 [] [.int (iz t0), .ref (ad 45), .ref (ad o)] := by
  refine clc_X8_26_X8 X K ho rfl h (Nat.le_of_ble_eq_true rfl) dX8_take_69 ⟨Nat.zero_le _, Nat.zero_le _⟩ (fun σ1 h => ?_)
  exact h.elim
set_option maxRecDepth 100000 in
theorem wkx_X8_take_68 {Γ : ZG} {l : Launch} {D : va_G} {ds : Nat → ClassId} {ad : Nat → Nat} {post : ZS → Prop} {o : Nat} (X : ZX Γ cX8_take RX8 6 126) (K : ZCap Γ l (ΘC D ds ad) 5 1 6) (hR : ZOut Γ post) (ho : isSe o) (t0 : Int) (t1 : Int) (σ : ZS) (h : wx_X8_take_68 o post t0 t1 σ) : Z Γ 0 0 σ [] 68 [] [.int (iz t0), .int (iz t1), .ref (ad 45), .ref (ad o)] := by
  refine z_iadd X dX8_take_68 ?_
  exact z_sub [] rfl (wkx_X8_take_69 X K hR ho _ _ h)
set_option maxRecDepth 100000 in
theorem wkx_X8_take_24 {Γ : ZG} {l : Launch} {D : va_G} {ds : Nat → ClassId} {ad : Nat → Nat} {post : ZS → Prop} {o : Nat} (X : ZX Γ cX8_take RX8 6 126) (K : ZCap Γ l (ΘC D ds ad) 5 1 6) (hR : ZOut Γ post) (ho : isSe o) (t0 : Int) (σ : ZS) (h : wx_X8_take_24 o post t0 σ) : Z Γ 0 0 σ [] 24 [] [.int (iz t0), .ref (ad o)] := by
  refine pC_X8_19_X8 X K ho dX8_take_24 (fun σ1 eσ1 => ?_)
  have h := h σ1 eσ1
  exact h.elim
set_option maxRecDepth 100000 in
theorem mtx_X8_take (l : Launch) (D : va_G) (ds : Nat → ClassId) (ad : Nat → Nat) (o : Nat) (a1 : Int) (a2 : Int) (σ : ZS) (post : ZS → Prop) (h : wx_X8_take o a1 a2 σ post) : ZMetX l (ΘC D ds ad) yX8_take cX8_take 5 none 6 126 [.ref (ad o), .ref (ad 45), .int (iz a1), .int (iz a2)] σ post := by
  refine ZMetX.of (by decide) (Nat.le_of_ble_eq_true rfl) (fun Γ X K hR => ?_)
  have X : ZX Γ cX8_take RX8 6 126 := X
  refine z_sub [0, 1, 2, 3] (lv' := [(0, .ref (ad o)), (1, .ref (ad 45)), (2, .int (iz a1)), (3, .int (iz a2))]) rfl ?_
  obtain ⟨ho, h⟩ := h
  refine z_aload_n X 0 dX8_take_0 rfl ?_
  refine gC_X8_19_X8 X K ho dX8_take_1 ?_
  obtain ⟨i1, h⟩ := h
  refine z_if_ge X 73 dX8_take_4 rfl i1 (fun c2 => ?_) (fun c2 => ?_)
  · have h := h.1 c2
    refine z_aload_n X 0 dX8_take_73 rfl ?_
    refine gC_X8_19_X8 X K ho dX8_take_74 ?_
    refine z_iconst X 3 dX8_take_77 ?_
    obtain ⟨g3, h⟩ := h
    refine z_irem X dX8_take_78 ⟨i1, (by decide), g3, (by decide)⟩ ?_
    refine z_topi (fun v4_4 ev4_4 => ?_)
    have h := h v4_4 ev4_4
    refine z_istoreK X K (lv' := [(4, .int (iz v4_4)), (0, .ref (ad o)), (1, .ref (ad 45)), (2, .int (iz a1)), (3, .int (iz a2))]) dX8_take_79 rfl rfl ?_
    refine z_aload_n X 1 dX8_take_81 rfl ?_
    refine z_iconst X (-1) dX8_take_82 ?_
    refine pC_X8_19_X8 X K ho dX8_take_83 (fun σ5 eσ5 => ?_)
    have h := h σ5 eσ5
    refine z_iload X 0 dX8_take_86 rfl ?_
    refine z_iconst X 1 dX8_take_88 ?_
    obtain ⟨i6, h⟩ := h
    refine z_icmp_ne X 123 dX8_take_89 rfl i6 (by decide) (fun c7 => ?_) (fun c7 => ?_)
    · have h := h.1 c7
      exact z_sub [1, 2, 3, 0] rfl (wkx_X8_take_123 X K hR ho _ _ _ h)
    · have h := h.2 c7
      refine z_iload_n X 3 dX8_take_92 rfl ?_
      refine z_bipush X 30 dX8_take_93 rfl ?_
      obtain ⟨i8, h⟩ := h
      refine z_icmp_ne X 123 dX8_take_95 rfl i8 (by decide) (fun c9 => ?_) (fun c9 => ?_)
      · have h := h.1 c9
        exact z_sub [1, 2, 3, 0] rfl (wkx_X8_take_123 X K hR ho _ _ _ h)
      · have h := h.2 c9
        refine z_aload_n X 1 dX8_take_98 rfl ?_
        refine gC_X8_23_X8 X K ho dX8_take_99 ?_
        obtain ⟨i10, h⟩ := h
        refine z_if_le X 113 dX8_take_102 rfl i10 (fun c11 => ?_) (fun c11 => ?_)
        · have h := h.1 c11
          refine z_aload_n X 1 dX8_take_113 rfl ?_
          refine z_sipush X 128 dX8_take_114 rfl ?_
          refine pC_X8_23_X8 X K ho dX8_take_117 (fun σ12 eσ12 => ?_)
          have h := h σ12 eσ12
          refine z_goto (tgt := 135) X dX8_take_120 rfl ?_
          exact h.elim
        · have h := h.2 c11
          exact z_throwNS q1083 q1084 X K rfl dX8_take_105 dX8_take_108 dX8_take_109 dX8_take_112 (Nat.le_of_ble_eq_true rfl) ⟨Nat.le_refl 1, Nat.le_refl 6⟩ (fun q => hR _ _ _ _ _ _ _ q (Nat.le_refl 1) (Nat.le_refl 6) h)
  · have h := h.2 c2
    refine z_iload_n X 2 dX8_take_7 rfl ?_
    refine z_iconst X 3 dX8_take_8 ?_
    obtain ⟨i13, h⟩ := h
    refine z_icmp_ge X 28 dX8_take_9 rfl i13 (by decide) (fun c14 => ?_) (fun c14 => ?_)
    · have h := h.1 c14
      refine z_aload_n X 0 dX8_take_28 rfl ?_
      refine z_aload_n X 1 dX8_take_29 rfl ?_
      refine z_iload_n X 2 dX8_take_30 rfl ?_
      refine z_iconst X 3 dX8_take_31 ?_
      refine z_icmp_ne X 40 dX8_take_32 rfl i13 (by decide) (fun c15 => ?_) (fun c15 => ?_)
      · have h := h.1 c15
        refine z_iload_n X 2 dX8_take_40 rfl ?_
        refine z_bipush X 14 dX8_take_41 rfl ?_
        refine z_icmp_ge X 53 dX8_take_43 rfl i13 (by decide) (fun c16 => ?_) (fun c16 => ?_)
        · have h := h.1 c16
          refine z_iload_n X 2 dX8_take_53 rfl ?_
          refine z_aload_n X 0 dX8_take_54 rfl ?_
          refine gC_X8_15_X8 X K ho dX8_take_55 ?_
          obtain ⟨i17, h⟩ := h
          refine z_if_eq X 66 dX8_take_58 rfl i17 (fun c18 => ?_) (fun c18 => ?_)
          · have h := h.1 c18
            refine z_bipush X 51 dX8_take_66 rfl ?_
            exact z_sub [] rfl (wkx_X8_take_68 X K hR ho _ _ _ h)
          · have h := h.2 c18
            refine z_bipush X 83 dX8_take_61 rfl ?_
            refine z_goto (tgt := 68) X dX8_take_63 rfl ?_
            exact z_sub [] rfl (wkx_X8_take_68 X K hR ho _ _ _ h)
        · have h := h.2 c16
          refine z_iload_n X 2 dX8_take_46 rfl ?_
          refine z_bipush X 44 dX8_take_47 rfl ?_
          refine z_iadd X dX8_take_49 ?_
          refine z_goto (tgt := 69) X dX8_take_50 rfl ?_
          exact z_sub [] rfl (wkx_X8_take_69 X K hR ho _ _ h)
      · have h := h.2 c15
        refine z_bipush X 32 dX8_take_35 rfl ?_
        refine z_goto (tgt := 69) X dX8_take_37 rfl ?_
        exact z_sub [] rfl (wkx_X8_take_69 X K hR ho _ _ h)
    · have h := h.2 c14
      refine z_aload_n X 0 dX8_take_12 rfl ?_
      refine z_iload_n X 3 dX8_take_13 rfl ?_
      obtain ⟨i19, h⟩ := h
      refine z_if_eq X 23 dX8_take_14 rfl i19 (fun c20 => ?_) (fun c20 => ?_)
      · have h := h.1 c20
        refine z_iload_n X 2 dX8_take_23 rfl ?_
        exact z_sub [] rfl (wkx_X8_take_24 X K hR ho _ _ h)
      · have h := h.2 c20
        refine z_iload_n X 2 dX8_take_17 rfl ?_
        refine z_iconst X 3 dX8_take_18 ?_
        refine z_iadd X dX8_take_19 ?_
        refine z_goto (tgt := 24) X dX8_take_20 rfl ?_
        exact z_sub [] rfl (wkx_X8_take_24 X K hR ho _ _ h)
/- X8_end -/
set_option maxRecDepth 100000 in
theorem wkc_X8_end_22 {Γ : ZG} {l : Launch} {D : va_G} {ds : Nat → ClassId} {ad : Nat → Nat} {post : ZS → Prop} {o : Nat} (X : ZX Γ cX8_end RX8 5 104) (K : ZCap Γ l (ΘC D ds ad) 1 0 0) (hR : ZRetV Γ cX8_end 0 0 post) (ho : isSe o) (σ : ZS) (h : wc_X8_end_22 o post σ) : Z Γ 0 0 σ [] 22 [] [] := by
  exact h.elim
set_option maxRecDepth 100000 in
theorem mtc_X8_end (l : Launch) (D : va_G) (ds : Nat → ClassId) (ad : Nat → Nat) (o : Nat) (σ : ZS) (post : ZS → Prop) (h : wc_X8_end o σ post) : ZMetV l (ΘC D ds ad) yX8_end cX8_end 1 5 104 0 0 [.ref (ad o)] σ post := by
  refine ZMetV.of (by decide) (Nat.le_of_ble_eq_true rfl) (fun Γ X K hR => ?_)
  have X : ZX Γ cX8_end RX8 5 104 := X
  refine z_sub [0] (lv' := [(0, .ref (ad o))]) rfl ?_
  obtain ⟨ho, h⟩ := h
  refine z_aload_n X 0 dX8_end_0 rfl ?_
  refine gC_X8_23_X8 X K ho dX8_end_1 ?_
  obtain ⟨i1, h⟩ := h
  refine z_if_gt X 22 dX8_end_4 rfl i1 (fun c2 => ?_) (fun c2 => ?_)
  · have h := h.1 c2
    exact z_sub [] rfl (wkc_X8_end_22 X K hR ho _ h)
  · have h := h.2 c2
    refine z_aload_n X 0 dX8_end_7 rfl ?_
    refine gC_X8_19_X8 X K ho dX8_end_8 ?_
    obtain ⟨i3, h⟩ := h
    refine z_if_lt X 30 dX8_end_11 rfl i3 (fun c4 => ?_) (fun c4 => ?_)
    · have h := h.1 c4
      exact hR _ _ _ _ _ _ dX8_end_30 (Nat.le_refl 0) (Nat.le_refl 0) h
    · have h := h.2 c4
      refine z_aload_n X 0 dX8_end_14 rfl ?_
      refine gC_X8_19_X8 X K ho dX8_end_15 ?_
      refine z_iconst X 3 dX8_end_18 ?_
      refine z_icmp_eq X 30 dX8_end_19 rfl i3 (by decide) (fun c5 => ?_) (fun c5 => ?_)
      · have h := h.1 c5
        exact hR _ _ _ _ _ _ dX8_end_30 (Nat.le_refl 0) (Nat.le_refl 0) h
      · have h := h.2 c5
        exact z_sub [] rfl (wkc_X8_end_22 X K hR ho _ h)
/- X8_end -/
set_option maxRecDepth 100000 in
theorem wkx_X8_end_22 {Γ : ZG} {l : Launch} {D : va_G} {ds : Nat → ClassId} {ad : Nat → Nat} {post : ZS → Prop} {o : Nat} (X : ZX Γ cX8_end RX8 5 104) (K : ZCap Γ l (ΘC D ds ad) 1 1 6) (hR : ZOut Γ post) (ho : isSe o) (σ : ZS) (h : wx_X8_end_22 o post σ) : Z Γ 0 0 σ [] 22 [] [] := by
  exact z_throwNS q1083 q1084 X K rfl dX8_end_22 dX8_end_25 dX8_end_26 dX8_end_29 (Nat.le_of_ble_eq_true rfl) ⟨Nat.le_refl 1, Nat.le_refl 6⟩ (fun q => hR _ _ _ _ _ _ _ q (Nat.le_refl 1) (Nat.le_refl 6) h)
set_option maxRecDepth 100000 in
theorem mtx_X8_end (l : Launch) (D : va_G) (ds : Nat → ClassId) (ad : Nat → Nat) (o : Nat) (σ : ZS) (post : ZS → Prop) (h : wx_X8_end o σ post) : ZMetX l (ΘC D ds ad) yX8_end cX8_end 1 none 5 104 [.ref (ad o)] σ post := by
  refine ZMetX.of (by decide) (Nat.le_of_ble_eq_true rfl) (fun Γ X K hR => ?_)
  have X : ZX Γ cX8_end RX8 5 104 := X
  refine z_sub [0] (lv' := [(0, .ref (ad o))]) rfl ?_
  obtain ⟨ho, h⟩ := h
  refine z_aload_n X 0 dX8_end_0 rfl ?_
  refine gC_X8_23_X8 X K ho dX8_end_1 ?_
  obtain ⟨i1, h⟩ := h
  refine z_if_gt X 22 dX8_end_4 rfl i1 (fun c2 => ?_) (fun c2 => ?_)
  · have h := h.1 c2
    exact z_sub [] rfl (wkx_X8_end_22 X K hR ho _ h)
  · have h := h.2 c2
    refine z_aload_n X 0 dX8_end_7 rfl ?_
    refine gC_X8_19_X8 X K ho dX8_end_8 ?_
    obtain ⟨i3, h⟩ := h
    refine z_if_lt X 30 dX8_end_11 rfl i3 (fun c4 => ?_) (fun c4 => ?_)
    · have h := h.1 c4
      exact h.elim
    · have h := h.2 c4
      refine z_aload_n X 0 dX8_end_14 rfl ?_
      refine gC_X8_19_X8 X K ho dX8_end_15 ?_
      refine z_iconst X 3 dX8_end_18 ?_
      refine z_icmp_eq X 30 dX8_end_19 rfl i3 (by decide) (fun c5 => ?_) (fun c5 => ?_)
      · have h := h.1 c5
        exact h.elim
      · have h := h.2 c5
        exact z_sub [] rfl (wkx_X8_end_22 X K hR ho _ h)
/- X7_read -/
theorem clc_X7_37_Th {Γ : ZG} {cc : ByteArray} {fr lo nL mc0 ms0 k n pc : Nat} {xs : va_W} {lv : List (Nat × Value)} {st : List Value} {l : Launch} {D : va_G} {ds : Nat → ClassId} {ad : Nat → Nat} {σ : ZS} {post : ZS → Prop} (X : ZX Γ cc RX7 fr lo) (K : ZCap Γ l (ΘC D ds ad) nL mc0 ms0) {o : Nat} (ho : isTh o) (hrm : zroom 6 124 fr lo = true) (h : wv_Th_end o σ post) (hst : (st.map fun v => v.category).sum ≤ 8) (d : decode cc pc = .ok (.invokevirtual 37, 3)) (hcs : k ≤ mc0 ∧ n ≤ ms0) (kk : ∀ (σ' : ZS), post σ' → Z Γ k n σ' xs (pc + 3) lv (st)) : Z Γ k n σ xs pc lv (.ref (ad o) :: st) := by
  rcases ho with rfl | rfl | rfl
  · exact z_callUV' (C := RX8) (owner := "MatrixPress$Threes") (q0 := 53) X K (mtc_X8_end l D ds ad 53 σ post (h.1 (Or.inl rfl))) (Nat.le_of_ble_eq_true rfl) rfl rfl rfl (lw_U q1093 q1095 q1096 q1097 q118 q1098) (va_Decl.abs (X.nw q1094 rfl)) ⟨by decide, by decide, rfl⟩ (zroom_of (zroom_le hrm (by decide))) ⟨by rw [K.2.2.2.1]; exact hcs.1, by rw [K.2.2.2.2]; exact hcs.2⟩ hst d rfl kk
  · exact z_callUV' (C := RX8) (owner := "MatrixPress$Threes") (q0 := 56) X K (mtc_X8_end l D ds ad 56 σ post (h.1 (Or.inr rfl))) (Nat.le_of_ble_eq_true rfl) rfl rfl rfl (lw_U q1093 q1095 q1096 q1097 q118 q1098) (va_Decl.abs (X.nw q1094 rfl)) ⟨by decide, by decide, rfl⟩ (zroom_of (zroom_le hrm (by decide))) ⟨by rw [K.2.2.2.1]; exact hcs.1, by rw [K.2.2.2.2]; exact hcs.2⟩ hst d rfl kk
  · exact z_callUV' (C := RX9) (owner := "MatrixPress$Threes") (q0 := 59) X K (mtc_X9_end l D ds ad  σ post (h.2 rfl)) (Nat.le_of_ble_eq_true rfl) rfl rfl rfl (lw_U q1093 q1095 q1099 q1100 q123 q1101) (va_Decl.abs (X.nw q1094 rfl)) ⟨by decide, by decide, rfl⟩ (zroom_of (zroom_le hrm (by decide))) ⟨by rw [K.2.2.2.1]; exact hcs.1, by rw [K.2.2.2.2]; exact hcs.2⟩ hst d rfl kk
theorem clc_X7_19 {Γ : ZG} {cc : ByteArray} {fr lo nL mc0 ms0 k n pc : Nat} {xs : va_W} {lv : List (Nat × Value)} {st : List Value} {l : Launch} {D : va_G} {ds : Nat → ClassId} {ad : Nat → Nat} {σ : ZS} {post : Int → ZS → Prop} (X : ZX Γ cc RX7 fr lo) (K : ZCap Γ l (ΘC D ds ad) nL mc0 ms0) (hrm : zroom 3 44 fr lo = true) (h : wc_X4_left σ post) (hst : (st.map fun v => v.category).sum ≤ 8) (d : decode cc pc = .ok (.invokevirtual 19, 3)) (hcs : k ≤ mc0 ∧ n ≤ ms0) (kk : ∀ (r : Int) (σ' : ZS), post r σ' → Z Γ k n σ' xs (pc + 3) lv (.int (iz r) :: st)) : Z Γ k n σ xs pc lv (.ref (ad 45) :: st) := 
  z_callVI' (C := RX4) (q0 := 45) X K (mtc_X4_left l D ds ad  σ post h) (Nat.le_of_ble_eq_true rfl) rfl rfl rfl (lw_V q1067 q1039 q1040 q111 q1041) ⟨rfl, by decide, by decide, rfl⟩ (zroom_of (zroom_le hrm (by decide))) ⟨by rw [K.2.2.2.1]; exact hcs.1, by rw [K.2.2.2.2]; exact hcs.2⟩ hst d rfl kk
theorem clc_X7_25 {Γ : ZG} {cc : ByteArray} {fr lo nL mc0 ms0 k n pc : Nat} {xs : va_W} {lv : List (Nat × Value)} {st : List Value} {l : Launch} {D : va_G} {ds : Nat → ClassId} {ad : Nat → Nat} {σ : ZS} {post : Int → ZS → Prop} (X : ZX Γ cc RX7 fr lo) (K : ZCap Γ l (ΘC D ds ad) nL mc0 ms0) (hrm : zroom 6 124 fr lo = true) (h : wc_X4_next σ post) (hst : (st.map fun v => v.category).sum ≤ 8) (d : decode cc pc = .ok (.invokevirtual 25, 3)) (hcs : k ≤ mc0 ∧ n ≤ ms0) (kk : ∀ (r : Int) (σ' : ZS), post r σ' → Z Γ k n σ' xs (pc + 3) lv (.int (iz r) :: st)) : Z Γ k n σ xs pc lv (.ref (ad 45) :: st) := 
  z_callVI' (C := RX4) (q0 := 45) X K (mtc_X4_next l D ds ad  σ post h) (Nat.le_of_ble_eq_true rfl) rfl rfl rfl (lw_V q1068 q992 q993 q111 q994) ⟨rfl, by decide, by decide, rfl⟩ (zroom_of (zroom_le hrm (by decide))) ⟨by rw [K.2.2.2.1]; exact hcs.1, by rw [K.2.2.2.2]; exact hcs.2⟩ hst d rfl kk
theorem clc_X7_33_Th {Γ : ZG} {cc : ByteArray} {fr lo nL mc0 ms0 k n pc : Nat} {xs : va_W} {lv : List (Nat × Value)} {st : List Value} {l : Launch} {D : va_G} {ds : Nat → ClassId} {ad : Nat → Nat} {a1 : Int} {a2 : Int} {σ : ZS} {post : ZS → Prop} (X : ZX Γ cc RX7 fr lo) (K : ZCap Γ l (ΘC D ds ad) nL mc0 ms0) {o : Nat} (ho : isTh o) (hrm : zroom 7 150 fr lo = true) (h : wv_Th_take o a1 a2 σ post) (hst : (st.map fun v => v.category).sum ≤ 8) (d : decode cc pc = .ok (.invokevirtual 33, 3)) (hcs : k ≤ mc0 ∧ n ≤ ms0) (kk : ∀ (σ' : ZS), post σ' → Z Γ k n σ' xs (pc + 3) lv (st)) : Z Γ k n σ xs pc lv (.int (iz a2) :: .int (iz a1) :: .ref (ad 45) :: .ref (ad o) :: st) := by
  rcases ho with rfl | rfl | rfl
  · exact z_callUV' (C := RX8) (owner := "MatrixPress$Threes") (q0 := 53) X K (mtc_X8_take l D ds ad 53 a1 a2 σ post (h.1 (Or.inl rfl))) (Nat.le_of_ble_eq_true rfl) rfl rfl rfl (lw_U q1072 q1074 q1075 q1076 q118 q1077) (va_Decl.abs (X.nw q1073 rfl)) ⟨by decide, by decide, rfl⟩ (zroom_of (zroom_le hrm (by decide))) ⟨by rw [K.2.2.2.1]; exact hcs.1, by rw [K.2.2.2.2]; exact hcs.2⟩ hst d rfl kk
  · exact z_callUV' (C := RX8) (owner := "MatrixPress$Threes") (q0 := 56) X K (mtc_X8_take l D ds ad 56 a1 a2 σ post (h.1 (Or.inr rfl))) (Nat.le_of_ble_eq_true rfl) rfl rfl rfl (lw_U q1072 q1074 q1075 q1076 q118 q1077) (va_Decl.abs (X.nw q1073 rfl)) ⟨by decide, by decide, rfl⟩ (zroom_of (zroom_le hrm (by decide))) ⟨by rw [K.2.2.2.1]; exact hcs.1, by rw [K.2.2.2.2]; exact hcs.2⟩ hst d rfl kk
  · exact z_callUV' (C := RX9) (owner := "MatrixPress$Threes") (q0 := 59) X K (mtc_X9_take l D ds ad a1 a2 σ post (h.2 rfl)) (Nat.le_of_ble_eq_true rfl) rfl rfl rfl (lw_U q1072 q1074 q1089 q1090 q123 q1091) (va_Decl.abs (X.nw q1073 rfl)) ⟨by decide, by decide, rfl⟩ (zroom_of (zroom_le hrm (by decide))) ⟨by rw [K.2.2.2.1]; exact hcs.1, by rw [K.2.2.2.2]; exact hcs.2⟩ hst d rfl kk
theorem clc_X7_15_Th {Γ : ZG} {cc : ByteArray} {fr lo nL mc0 ms0 k n pc : Nat} {xs : va_W} {lv : List (Nat × Value)} {st : List Value} {l : Launch} {D : va_G} {ds : Nat → ClassId} {ad : Nat → Nat} {σ : ZS} {post : ZS → Prop} (X : ZX Γ cc RX7 fr lo) (K : ZCap Γ l (ΘC D ds ad) nL mc0 ms0) {o : Nat} (ho : isTh o) (hrm : zroom 3 44 fr lo = true) (h : wv_Th_begin o σ post) (hst : (st.map fun v => v.category).sum ≤ 8) (d : decode cc pc = .ok (.invokevirtual 15, 3)) (hcs : k ≤ mc0 ∧ n ≤ ms0) (kk : ∀ (σ' : ZS), post σ' → Z Γ k n σ' xs (pc + 3) lv (st)) : Z Γ k n σ xs pc lv (.ref (ad o) :: st) := by
  rcases ho with rfl | rfl | rfl
  · exact z_callUV' (C := RX8) (owner := "MatrixPress$Threes") (q0 := 53) X K (mtc_X8_begin l D ds ad 53 σ post (h.1 (Or.inl rfl))) (Nat.le_of_ble_eq_true rfl) rfl rfl rfl (lw_U q1058 q1060 q1061 q1062 q118 q1063) (va_Decl.abs (X.nw q1059 rfl)) ⟨by decide, by decide, rfl⟩ (zroom_of (zroom_le hrm (by decide))) ⟨by rw [K.2.2.2.1]; exact hcs.1, by rw [K.2.2.2.2]; exact hcs.2⟩ hst d rfl kk
  · exact z_callUV' (C := RX8) (owner := "MatrixPress$Threes") (q0 := 56) X K (mtc_X8_begin l D ds ad 56 σ post (h.1 (Or.inr rfl))) (Nat.le_of_ble_eq_true rfl) rfl rfl rfl (lw_U q1058 q1060 q1061 q1062 q118 q1063) (va_Decl.abs (X.nw q1059 rfl)) ⟨by decide, by decide, rfl⟩ (zroom_of (zroom_le hrm (by decide))) ⟨by rw [K.2.2.2.1]; exact hcs.1, by rw [K.2.2.2.2]; exact hcs.2⟩ hst d rfl kk
  · exact z_callUV' (C := RX9) (owner := "MatrixPress$Threes") (q0 := 59) X K (mtc_X9_begin l D ds ad  σ post (h.2 rfl)) (Nat.le_of_ble_eq_true rfl) rfl rfl rfl (lw_U q1058 q1060 q1064 q1065 q123 q1066) (va_Decl.abs (X.nw q1059 rfl)) ⟨by decide, by decide, rfl⟩ (zroom_of (zroom_le hrm (by decide))) ⟨by rw [K.2.2.2.1]; exact hcs.1, by rw [K.2.2.2.2]; exact hcs.2⟩ hst d rfl kk
set_option maxRecDepth 100000 in
theorem wkc_X7_read_95 {Γ : ZG} {l : Launch} {D : va_G} {ds : Nat → ClassId} {ad : Nat → Nat} {post : ZS → Prop} {o : Nat} (X : ZX Γ cX7_read RX7 7 150) (K : ZCap Γ l (ΘC D ds ad) 4 0 0) (hR : ZRetV Γ cX7_read 0 0 post) (ho : isTh o) (σ : ZS) (h : wc_X7_read_95 o post σ) : Z Γ 0 0 σ [] 95 [(0, .ref (ad o))] [] := by
  refine z_aload_n X 0 dX7_read_95 rfl ?_
  refine clc_X7_37_Th X K ho rfl h (Nat.le_of_ble_eq_true rfl) dX7_read_96 ⟨Nat.zero_le _, Nat.zero_le _⟩ (fun σ1 h => ?_)
  exact hR _ _ _ _ _ _ dX7_read_99 (Nat.le_refl 0) (Nat.le_refl 0) h
set_option maxRecDepth 100000 in
theorem wkc_X7_read_50 {Γ : ZG} {l : Launch} {D : va_G} {ds : Nat → ClassId} {ad : Nat → Nat} {post : ZS → Prop} {o : Nat} (X : ZX Γ cX7_read RX7 7 150) (K : ZCap Γ l (ΘC D ds ad) 4 0 0) (hR : ZRetV Γ cX7_read 0 0 post) (ho : isTh o) (σ : ZS) (h : wc_X7_read_50 o post σ) : Z Γ 0 0 σ [] 50 [] [] := by
  exact h.elim
set_option maxRecDepth 100000 in
theorem wkc_X7_read_4 {Γ : ZG} {l : Launch} {D : va_G} {ds : Nat → ClassId} {ad : Nat → Nat} {post : ZS → Prop} {o : Nat} (X : ZX Γ cX7_read RX7 7 150) (K : ZCap Γ l (ΘC D ds ad) 4 0 0) (hR : ZRetV Γ cX7_read 0 0 post) (ho : isTh o) : ∀ (N : Nat) (σ : ZS), zfix (wbc_X7_read_4 o post) N (σ) → Z Γ 0 0 σ [] 4 [(0, .ref (ad o)), (1, .ref (ad 45))] [] := by
  intro N
  induction N with
  | zero => intro  σ h; exact False.elim h
  | succ N ih =>
    intro  σ h
    have h : wbc_X7_read_4 o post (zfix (wbc_X7_read_4 o post) N) (σ) := h
    have hC4 := ih
    clear ih
    generalize zfix (wbc_X7_read_4 o post) N = C4 at h hC4
    dsimp only [wbc_X7_read_4] at h
    refine z_aload_n X 1 dX7_read_4 rfl ?_
    refine clc_X7_19 X K rfl h (Nat.le_of_ble_eq_true rfl) dX7_read_5 ⟨Nat.zero_le _, Nat.zero_le _⟩ (fun r2 σ1 h => ?_)
    refine z_iconst X 2 dX7_read_8 ?_
    obtain ⟨i3, h⟩ := h
    refine z_icmp_lt X 95 dX7_read_9 rfl i3 (by decide) (fun c4 => ?_) (fun c4 => ?_)
    · have h := h.1 c4
      exact z_sub [0] rfl (wkc_X7_read_95 X K hR ho _ h)
    · have h := h.2 c4
      refine z_aload_n X 1 dX7_read_12 rfl ?_
      refine clc_X7_25 X K rfl h (Nat.le_of_ble_eq_true rfl) dX7_read_13 ⟨Nat.zero_le _, Nat.zero_le _⟩ (fun r6 σ5 h => ?_)
      refine z_istore_nK X K (lv' := [(2, .int (iz r6)), (0, .ref (ad o)), (1, .ref (ad 45))]) dX7_read_16 rfl rfl ?_
      refine z_iload_n X 0 dX7_read_17 rfl ?_
      refine z_sipush X 254 dX7_read_18 rfl ?_
      obtain ⟨i7, h⟩ := h
      refine z_icmp_ne X 27 dX7_read_21 rfl i7 (by decide) (fun c8 => ?_) (fun c8 => ?_)
      · have h := h.1 c8
        refine z_sipush X 256 dX7_read_27 rfl ?_
        refine z_iload_n X 0 dX7_read_30 rfl ?_
        refine z_imul X dX7_read_31 ?_
        refine z_aload_n X 2 dX7_read_32 rfl ?_
        refine clc_X7_25 X K rfl h (Nat.le_of_ble_eq_true rfl) dX7_read_33 ⟨Nat.zero_le _, Nat.zero_le _⟩ (fun r10 σ9 h => ?_)
        refine z_iadd X dX7_read_36 ?_
        refine z_iconst X 1 dX7_read_37 ?_
        refine z_isub X dX7_read_38 ?_
        refine z_topi (fun v3_11 ev3_11 => ?_)
        have h := h v3_11 ev3_11
        refine z_istore_nK X K (lv' := [(3, .int (iz v3_11)), (2, .int (iz r6)), (0, .ref (ad o)), (1, .ref (ad 45))]) dX7_read_39 rfl rfl ?_
        refine z_iload_n X 0 dX7_read_40 rfl ?_
        obtain ⟨i12, h⟩ := h
        refine z_if_lt X 50 dX7_read_41 rfl i12 (fun c13 => ?_) (fun c13 => ?_)
        · have h := h.1 c13
          exact z_sub [] rfl (wkc_X7_read_50 X K hR ho _ h)
        · have h := h.2 c13
          refine z_iload_n X 0 dX7_read_44 rfl ?_
          refine z_ldc X 64000 q1069 rfl dX7_read_45 ?_
          refine z_icmp_lt X 58 dX7_read_47 rfl i12 (by decide) (fun c14 => ?_) (fun c14 => ?_)
          · have h := h.1 c14
            refine z_aload_n X 2 dX7_read_58 rfl ?_
            refine z_aload_n X 3 dX7_read_59 rfl ?_
            refine z_iload_n X 0 dX7_read_60 rfl ?_
            refine z_sipush X 1600 dX7_read_61 rfl ?_
            obtain ⟨g15, h⟩ := h
            refine z_idiv X dX7_read_64 ⟨i12, (by decide), g15, (by decide)⟩ ?_
            refine z_iconst X 0 dX7_read_65 ?_
            refine clc_X7_33_Th X K ho rfl h (Nat.le_of_ble_eq_true rfl) dX7_read_66 ⟨Nat.zero_le _, Nat.zero_le _⟩ (fun σ16 h => ?_)
            refine z_aload_n X 2 dX7_read_69 rfl ?_
            refine z_aload_n X 3 dX7_read_70 rfl ?_
            refine z_iload_n X 0 dX7_read_71 rfl ?_
            refine z_bipush X 40 dX7_read_72 rfl ?_
            refine z_idiv X dX7_read_74 ⟨i12, (by decide), g15, (by decide)⟩ ?_
            refine z_bipush X 40 dX7_read_75 rfl ?_
            obtain ⟨i17, h⟩ := h
            obtain ⟨g18, h⟩ := h
            refine z_irem X dX7_read_77 ⟨i17, (by decide), g18, (by decide)⟩ ?_
            refine z_iconst X 0 dX7_read_78 ?_
            refine clc_X7_33_Th X K ho rfl h (Nat.le_of_ble_eq_true rfl) dX7_read_79 ⟨Nat.zero_le _, Nat.zero_le _⟩ (fun σ19 h => ?_)
            refine z_aload_n X 2 dX7_read_82 rfl ?_
            refine z_aload_n X 3 dX7_read_83 rfl ?_
            refine z_iload_n X 0 dX7_read_84 rfl ?_
            refine z_bipush X 40 dX7_read_85 rfl ?_
            refine z_irem X dX7_read_87 ⟨i12, (by decide), g15, (by decide)⟩ ?_
            refine z_iconst X 1 dX7_read_88 ?_
            refine clc_X7_33_Th X K ho rfl h (Nat.le_of_ble_eq_true rfl) dX7_read_89 ⟨Nat.zero_le _, Nat.zero_le _⟩ (fun σ20 h => ?_)
            refine z_goto (tgt := 4) X dX7_read_92 rfl ?_
            exact z_sub [2, 3] rfl (hC4 _ h)
          · have h := h.2 c14
            exact z_sub [] rfl (wkc_X7_read_50 X K hR ho _ h)
      · have h := h.2 c8
        refine z_goto (tgt := 95) X dX7_read_24 rfl ?_
        exact z_sub [1] rfl (wkc_X7_read_95 X K hR ho _ h)
set_option maxRecDepth 100000 in
theorem mtc_X7_read (l : Launch) (D : va_G) (ds : Nat → ClassId) (ad : Nat → Nat) (o : Nat) (σ : ZS) (post : ZS → Prop) (h : wc_X7_read o σ post) : ZMetV l (ΘC D ds ad) yX7_read cX7_read 4 7 150 0 0 [.ref (ad o), .ref (ad 45)] σ post := by
  refine ZMetV.of (by decide) (Nat.le_of_ble_eq_true rfl) (fun Γ X K hR => ?_)
  have X : ZX Γ cX7_read RX7 7 150 := X
  refine z_sub [0, 1] (lv' := [(0, .ref (ad o)), (1, .ref (ad 45))]) rfl ?_
  obtain ⟨ho, h⟩ := h
  refine z_aload_n X 0 dX7_read_0 rfl ?_
  refine clc_X7_15_Th X K ho rfl h (Nat.le_of_ble_eq_true rfl) dX7_read_1 ⟨Nat.zero_le _, Nat.zero_le _⟩ (fun σ1 h => ?_)
  obtain ⟨N, h⟩ := h
  exact z_sub [0, 1] rfl (wkc_X7_read_4 X K hR ho N _ h)
/- X7_read -/
theorem clx_X7_37_Th {Γ : ZG} {cc : ByteArray} {fr lo nL mc0 ms0 k n pc : Nat} {xs : va_W} {lv : List (Nat × Value)} {st : List Value} {l : Launch} {D : va_G} {ds : Nat → ClassId} {ad : Nat → Nat} {σ : ZS} {post : ZS → Prop} (X : ZX Γ cc RX7 fr lo) (K : ZCap Γ l (ΘC D ds ad) nL mc0 ms0) {o : Nat} (ho : isTh o) (hrm : zroom 6 124 fr lo = true) (h : wvx_Th_end o σ post) (hst : (st.map fun v => v.category).sum ≤ 8) (d : decode cc pc = .ok (.invokevirtual 37, 3)) (hcs : k + 1 ≤ mc0 ∧ n + 6 ≤ ms0) (kk : ∀ (σ' : ZS) (q : Nat), post σ' → ZThrow Γ (k + 1) (n + 6) σ' xs pc lv st q) : Z Γ k n σ xs pc lv (.ref (ad o) :: st) := by
  rcases ho with rfl | rfl | rfl
  · exact z_callUX' (C := RX8) (owner := "MatrixPress$Threes") (q0 := 53) X K (mtx_X8_end l D ds ad 53 σ post (h.1 (Or.inl rfl))) (Nat.le_of_ble_eq_true rfl) rfl rfl rfl (lw_U q1093 q1095 q1096 q1097 q118 q1098) (va_Decl.abs (X.nw q1094 rfl)) ⟨by decide, by decide, rfl⟩ (zroom_of (zroom_le hrm (by decide))) ⟨by rw [K.2.2.2.1]; exact hcs.1, by rw [K.2.2.2.2]; exact hcs.2⟩ hst d rfl kk
  · exact z_callUX' (C := RX8) (owner := "MatrixPress$Threes") (q0 := 56) X K (mtx_X8_end l D ds ad 56 σ post (h.1 (Or.inr rfl))) (Nat.le_of_ble_eq_true rfl) rfl rfl rfl (lw_U q1093 q1095 q1096 q1097 q118 q1098) (va_Decl.abs (X.nw q1094 rfl)) ⟨by decide, by decide, rfl⟩ (zroom_of (zroom_le hrm (by decide))) ⟨by rw [K.2.2.2.1]; exact hcs.1, by rw [K.2.2.2.2]; exact hcs.2⟩ hst d rfl kk
  · exact ((h.2 rfl)).elim
theorem clx_X7_33_Th {Γ : ZG} {cc : ByteArray} {fr lo nL mc0 ms0 k n pc : Nat} {xs : va_W} {lv : List (Nat × Value)} {st : List Value} {l : Launch} {D : va_G} {ds : Nat → ClassId} {ad : Nat → Nat} {a1 : Int} {a2 : Int} {σ : ZS} {post : ZS → Prop} (X : ZX Γ cc RX7 fr lo) (K : ZCap Γ l (ΘC D ds ad) nL mc0 ms0) {o : Nat} (ho : isTh o) (hrm : zroom 7 150 fr lo = true) (h : wvx_Th_take o a1 a2 σ post) (hst : (st.map fun v => v.category).sum ≤ 8) (d : decode cc pc = .ok (.invokevirtual 33, 3)) (hcs : k + 1 ≤ mc0 ∧ n + 6 ≤ ms0) (kk : ∀ (σ' : ZS) (q : Nat), post σ' → ZThrow Γ (k + 1) (n + 6) σ' xs pc lv st q) : Z Γ k n σ xs pc lv (.int (iz a2) :: .int (iz a1) :: .ref (ad 45) :: .ref (ad o) :: st) := by
  rcases ho with rfl | rfl | rfl
  · exact z_callUX' (C := RX8) (owner := "MatrixPress$Threes") (q0 := 53) X K (mtx_X8_take l D ds ad 53 a1 a2 σ post (h.1 (Or.inl rfl))) (Nat.le_of_ble_eq_true rfl) rfl rfl rfl (lw_U q1072 q1074 q1075 q1076 q118 q1077) (va_Decl.abs (X.nw q1073 rfl)) ⟨by decide, by decide, rfl⟩ (zroom_of (zroom_le hrm (by decide))) ⟨by rw [K.2.2.2.1]; exact hcs.1, by rw [K.2.2.2.2]; exact hcs.2⟩ hst d rfl kk
  · exact z_callUX' (C := RX8) (owner := "MatrixPress$Threes") (q0 := 56) X K (mtx_X8_take l D ds ad 56 a1 a2 σ post (h.1 (Or.inr rfl))) (Nat.le_of_ble_eq_true rfl) rfl rfl rfl (lw_U q1072 q1074 q1075 q1076 q118 q1077) (va_Decl.abs (X.nw q1073 rfl)) ⟨by decide, by decide, rfl⟩ (zroom_of (zroom_le hrm (by decide))) ⟨by rw [K.2.2.2.1]; exact hcs.1, by rw [K.2.2.2.2]; exact hcs.2⟩ hst d rfl kk
  · exact ((h.2 rfl)).elim
theorem clx_X7_25 {Γ : ZG} {cc : ByteArray} {fr lo nL mc0 ms0 k n pc : Nat} {xs : va_W} {lv : List (Nat × Value)} {st : List Value} {l : Launch} {D : va_G} {ds : Nat → ClassId} {ad : Nat → Nat} {σ : ZS} {post : ZS → Prop} (X : ZX Γ cc RX7 fr lo) (K : ZCap Γ l (ΘC D ds ad) nL mc0 ms0) (hrm : zroom 6 124 fr lo = true) (h : wx_X4_next σ post) (hst : (st.map fun v => v.category).sum ≤ 8) (d : decode cc pc = .ok (.invokevirtual 25, 3)) (hcs : k + 1 ≤ mc0 ∧ n + 6 ≤ ms0) (kk : ∀ (σ' : ZS) (q : Nat), post σ' → ZThrow Γ (k + 1) (n + 6) σ' xs pc lv st q) : Z Γ k n σ xs pc lv (.ref (ad 45) :: st) := 
  z_callVX' (C := RX4) (q0 := 45) X K (mtx_X4_next l D ds ad  σ post h) (Nat.le_of_ble_eq_true rfl) rfl rfl rfl (lw_V q1068 q992 q993 q111 q994) ⟨rfl, by decide, by decide, rfl⟩ (zroom_of (zroom_le hrm (by decide))) ⟨by rw [K.2.2.2.1]; exact hcs.1, by rw [K.2.2.2.2]; exact hcs.2⟩ hst d rfl kk
set_option maxRecDepth 100000 in
theorem wkx_X7_read_95 {Γ : ZG} {l : Launch} {D : va_G} {ds : Nat → ClassId} {ad : Nat → Nat} {post : ZS → Prop} {o : Nat} (X : ZX Γ cX7_read RX7 7 150) (K : ZCap Γ l (ΘC D ds ad) 4 1 6) (hR : ZOut Γ post) (ho : isTh o) (σ : ZS) (h : wx_X7_read_95 o post σ) : Z Γ 0 0 σ [] 95 [(0, .ref (ad o))] [] := by
  refine z_aload_n X 0 dX7_read_95 rfl ?_
  rcases h with h | h
  · refine clc_X7_37_Th X K ho rfl h (Nat.le_of_ble_eq_true rfl) dX7_read_96 ⟨Nat.zero_le _, Nat.zero_le _⟩ (fun σ1 h => ?_)
    exact h.elim
  · exact clx_X7_37_Th X K ho rfl h (Nat.le_of_ble_eq_true rfl) dX7_read_96 ⟨Nat.le_refl 1, Nat.le_refl 6⟩ (fun _ q h => hR _ _ _ _ _ _ _ q (Nat.le_refl 1) (Nat.le_refl 6) h)
set_option maxRecDepth 100000 in
theorem wkx_X7_read_50 {Γ : ZG} {l : Launch} {D : va_G} {ds : Nat → ClassId} {ad : Nat → Nat} {post : ZS → Prop} {o : Nat} (X : ZX Γ cX7_read RX7 7 150) (K : ZCap Γ l (ΘC D ds ad) 4 1 6) (hR : ZOut Γ post) (ho : isTh o) (σ : ZS) (h : wx_X7_read_50 o post σ) : Z Γ 0 0 σ [] 50 [] [] := by
  exact z_throwNS q1070 q1071 X K rfl dX7_read_50 dX7_read_53 dX7_read_54 dX7_read_57 (Nat.le_of_ble_eq_true rfl) ⟨Nat.le_refl 1, Nat.le_refl 6⟩ (fun q => hR _ _ _ _ _ _ _ q (Nat.le_refl 1) (Nat.le_refl 6) h)
set_option maxRecDepth 100000 in
theorem wkx_X7_read_4 {Γ : ZG} {l : Launch} {D : va_G} {ds : Nat → ClassId} {ad : Nat → Nat} {post : ZS → Prop} {o : Nat} (X : ZX Γ cX7_read RX7 7 150) (K : ZCap Γ l (ΘC D ds ad) 4 1 6) (hR : ZOut Γ post) (ho : isTh o) : ∀ (N : Nat) (σ : ZS), zfix (wbx_X7_read_4 o post) N (σ) → Z Γ 0 0 σ [] 4 [(0, .ref (ad o)), (1, .ref (ad 45))] [] := by
  intro N
  induction N with
  | zero => intro  σ h; exact False.elim h
  | succ N ih =>
    intro  σ h
    have h : wbx_X7_read_4 o post (zfix (wbx_X7_read_4 o post) N) (σ) := h
    have hC4 := ih
    clear ih
    generalize zfix (wbx_X7_read_4 o post) N = C4 at h hC4
    dsimp only [wbx_X7_read_4] at h
    refine z_aload_n X 1 dX7_read_4 rfl ?_
    refine clc_X7_19 X K rfl h (Nat.le_of_ble_eq_true rfl) dX7_read_5 ⟨Nat.zero_le _, Nat.zero_le _⟩ (fun r2 σ1 h => ?_)
    refine z_iconst X 2 dX7_read_8 ?_
    obtain ⟨i3, h⟩ := h
    refine z_icmp_lt X 95 dX7_read_9 rfl i3 (by decide) (fun c4 => ?_) (fun c4 => ?_)
    · have h := h.1 c4
      exact z_sub [0] rfl (wkx_X7_read_95 X K hR ho _ h)
    · have h := h.2 c4
      refine z_aload_n X 1 dX7_read_12 rfl ?_
      rcases h with h | h
      · refine clc_X7_25 X K rfl h (Nat.le_of_ble_eq_true rfl) dX7_read_13 ⟨Nat.zero_le _, Nat.zero_le _⟩ (fun r6 σ5 h => ?_)
        refine z_istore_nK X K (lv' := [(2, .int (iz r6)), (0, .ref (ad o)), (1, .ref (ad 45))]) dX7_read_16 rfl rfl ?_
        refine z_iload_n X 0 dX7_read_17 rfl ?_
        refine z_sipush X 254 dX7_read_18 rfl ?_
        obtain ⟨i7, h⟩ := h
        refine z_icmp_ne X 27 dX7_read_21 rfl i7 (by decide) (fun c8 => ?_) (fun c8 => ?_)
        · have h := h.1 c8
          refine z_sipush X 256 dX7_read_27 rfl ?_
          refine z_iload_n X 0 dX7_read_30 rfl ?_
          refine z_imul X dX7_read_31 ?_
          refine z_aload_n X 2 dX7_read_32 rfl ?_
          rcases h with h | h
          · refine clc_X7_25 X K rfl h (Nat.le_of_ble_eq_true rfl) dX7_read_33 ⟨Nat.zero_le _, Nat.zero_le _⟩ (fun r10 σ9 h => ?_)
            refine z_iadd X dX7_read_36 ?_
            refine z_iconst X 1 dX7_read_37 ?_
            refine z_isub X dX7_read_38 ?_
            refine z_topi (fun v3_11 ev3_11 => ?_)
            have h := h v3_11 ev3_11
            refine z_istore_nK X K (lv' := [(3, .int (iz v3_11)), (2, .int (iz r6)), (0, .ref (ad o)), (1, .ref (ad 45))]) dX7_read_39 rfl rfl ?_
            refine z_iload_n X 0 dX7_read_40 rfl ?_
            obtain ⟨i12, h⟩ := h
            refine z_if_lt X 50 dX7_read_41 rfl i12 (fun c13 => ?_) (fun c13 => ?_)
            · have h := h.1 c13
              exact z_sub [] rfl (wkx_X7_read_50 X K hR ho _ h)
            · have h := h.2 c13
              refine z_iload_n X 0 dX7_read_44 rfl ?_
              refine z_ldc X 64000 q1069 rfl dX7_read_45 ?_
              refine z_icmp_lt X 58 dX7_read_47 rfl i12 (by decide) (fun c14 => ?_) (fun c14 => ?_)
              · have h := h.1 c14
                refine z_aload_n X 2 dX7_read_58 rfl ?_
                refine z_aload_n X 3 dX7_read_59 rfl ?_
                refine z_iload_n X 0 dX7_read_60 rfl ?_
                refine z_sipush X 1600 dX7_read_61 rfl ?_
                obtain ⟨g15, h⟩ := h
                refine z_idiv X dX7_read_64 ⟨i12, (by decide), g15, (by decide)⟩ ?_
                refine z_iconst X 0 dX7_read_65 ?_
                rcases h with h | h
                · refine clc_X7_33_Th X K ho rfl h (Nat.le_of_ble_eq_true rfl) dX7_read_66 ⟨Nat.zero_le _, Nat.zero_le _⟩ (fun σ16 h => ?_)
                  refine z_aload_n X 2 dX7_read_69 rfl ?_
                  refine z_aload_n X 3 dX7_read_70 rfl ?_
                  refine z_iload_n X 0 dX7_read_71 rfl ?_
                  refine z_bipush X 40 dX7_read_72 rfl ?_
                  refine z_idiv X dX7_read_74 ⟨i12, (by decide), g15, (by decide)⟩ ?_
                  refine z_bipush X 40 dX7_read_75 rfl ?_
                  obtain ⟨i17, h⟩ := h
                  obtain ⟨g18, h⟩ := h
                  refine z_irem X dX7_read_77 ⟨i17, (by decide), g18, (by decide)⟩ ?_
                  refine z_iconst X 0 dX7_read_78 ?_
                  rcases h with h | h
                  · refine clc_X7_33_Th X K ho rfl h (Nat.le_of_ble_eq_true rfl) dX7_read_79 ⟨Nat.zero_le _, Nat.zero_le _⟩ (fun σ19 h => ?_)
                    refine z_aload_n X 2 dX7_read_82 rfl ?_
                    refine z_aload_n X 3 dX7_read_83 rfl ?_
                    refine z_iload_n X 0 dX7_read_84 rfl ?_
                    refine z_bipush X 40 dX7_read_85 rfl ?_
                    refine z_irem X dX7_read_87 ⟨i12, (by decide), g15, (by decide)⟩ ?_
                    refine z_iconst X 1 dX7_read_88 ?_
                    rcases h with h | h
                    · refine clc_X7_33_Th X K ho rfl h (Nat.le_of_ble_eq_true rfl) dX7_read_89 ⟨Nat.zero_le _, Nat.zero_le _⟩ (fun σ20 h => ?_)
                      refine z_goto (tgt := 4) X dX7_read_92 rfl ?_
                      exact z_sub [2, 3] rfl (hC4 _ h)
                    · exact clx_X7_33_Th X K ho rfl h (Nat.le_of_ble_eq_true rfl) dX7_read_89 ⟨Nat.le_refl 1, Nat.le_refl 6⟩ (fun _ q h => hR _ _ _ _ _ _ _ q (Nat.le_refl 1) (Nat.le_refl 6) h)
                  · exact clx_X7_33_Th X K ho rfl h (Nat.le_of_ble_eq_true rfl) dX7_read_79 ⟨Nat.le_refl 1, Nat.le_refl 6⟩ (fun _ q h => hR _ _ _ _ _ _ _ q (Nat.le_refl 1) (Nat.le_refl 6) h)
                · exact clx_X7_33_Th X K ho rfl h (Nat.le_of_ble_eq_true rfl) dX7_read_66 ⟨Nat.le_refl 1, Nat.le_refl 6⟩ (fun _ q h => hR _ _ _ _ _ _ _ q (Nat.le_refl 1) (Nat.le_refl 6) h)
              · have h := h.2 c14
                exact z_sub [] rfl (wkx_X7_read_50 X K hR ho _ h)
          · exact clx_X7_25 X K rfl h (Nat.le_of_ble_eq_true rfl) dX7_read_33 ⟨Nat.le_refl 1, Nat.le_refl 6⟩ (fun _ q h => hR _ _ _ _ _ _ _ q (Nat.le_refl 1) (Nat.le_refl 6) h)
        · have h := h.2 c8
          refine z_goto (tgt := 95) X dX7_read_24 rfl ?_
          exact z_sub [1] rfl (wkx_X7_read_95 X K hR ho _ h)
      · exact clx_X7_25 X K rfl h (Nat.le_of_ble_eq_true rfl) dX7_read_13 ⟨Nat.le_refl 1, Nat.le_refl 6⟩ (fun _ q h => hR _ _ _ _ _ _ _ q (Nat.le_refl 1) (Nat.le_refl 6) h)
set_option maxRecDepth 100000 in
theorem mtx_X7_read (l : Launch) (D : va_G) (ds : Nat → ClassId) (ad : Nat → Nat) (o : Nat) (σ : ZS) (post : ZS → Prop) (h : wx_X7_read o σ post) : ZMetX l (ΘC D ds ad) yX7_read cX7_read 4 none 7 150 [.ref (ad o), .ref (ad 45)] σ post := by
  refine ZMetX.of (by decide) (Nat.le_of_ble_eq_true rfl) (fun Γ X K hR => ?_)
  have X : ZX Γ cX7_read RX7 7 150 := X
  refine z_sub [0, 1] (lv' := [(0, .ref (ad o)), (1, .ref (ad 45))]) rfl ?_
  obtain ⟨ho, h⟩ := h
  refine z_aload_n X 0 dX7_read_0 rfl ?_
  refine clc_X7_15_Th X K ho rfl h (Nat.le_of_ble_eq_true rfl) dX7_read_1 ⟨Nat.zero_le _, Nat.zero_le _⟩ (fun σ1 h => ?_)
  obtain ⟨N, h⟩ := h
  exact z_sub [0, 1] rfl (wkx_X7_read_4 X K hR ho N _ h)
/- X10_ends -/
set_option maxRecDepth 100000 in
theorem mtc_X10_ends (l : Launch) (D : va_G) (ds : Nat → ClassId) (ad : Nat → Nat) (a1 : Int) (a2 : Int) (a3 : Int) (σ : ZS) (post : ZS → Prop) (h : wc_X10_ends a1 a2 a3 σ post) : ZMetV l (ΘC D ds ad) yX10_ends cX10_ends 7 5 104 0 0 [.ref (ad 62), .ref (ad 45), .int (iz a1), .int (iz a2), .int (iz a3)] σ post := by
  refine ZMetV.of (by decide) (Nat.le_of_ble_eq_true rfl) (fun Γ X K hR => ?_)
  have X : ZX Γ cX10_ends RX10 5 104 := X
  refine z_sub [0, 1, 2, 3, 4] (lv' := [(0, .ref (ad 62)), (1, .ref (ad 45)), (2, .int (iz a1)), (3, .int (iz a2)), (4, .int (iz a3))]) rfl ?_
  refine z_bipush X 6 dX10_ends_0 rfl ?_
  refine z_iload X 4 dX10_ends_2 rfl ?_
  refine z_imul X dX10_ends_4 ?_
  refine z_bipush X 6 dX10_ends_5 rfl ?_
  refine z_iadd X dX10_ends_7 ?_
  refine z_bipush X 7 dX10_ends_8 rfl ?_
  refine z_iadd X dX10_ends_10 ?_
  refine z_bipush X 8 dX10_ends_11 rfl ?_
  obtain ⟨i1, h⟩ := h
  obtain ⟨g2, h⟩ := h
  refine z_idiv X dX10_ends_13 ⟨i1, (by decide), g2, (by decide)⟩ ?_
  refine z_topi (fun v5_3 ev5_3 => ?_)
  have h := h v5_3 ev5_3
  refine z_istoreK X K (lv' := [(5, .int (iz v5_3)), (0, .ref (ad 62)), (1, .ref (ad 45)), (2, .int (iz a1)), (3, .int (iz a2)), (4, .int (iz a3))]) dX10_ends_14 rfl rfl ?_
  refine z_bipush X 8 dX10_ends_16 rfl ?_
  refine z_iload X 0 dX10_ends_18 rfl ?_
  refine z_imul X dX10_ends_20 ?_
  refine z_bipush X 6 dX10_ends_21 rfl ?_
  refine z_iload X 5 dX10_ends_23 rfl ?_
  refine z_imul X dX10_ends_25 ?_
  refine z_isub X dX10_ends_26 ?_
  refine z_bipush X 6 dX10_ends_27 rfl ?_
  refine z_isub X dX10_ends_29 ?_
  refine z_topi (fun v6_4 ev6_4 => ?_)
  have h := h v6_4 ev6_4
  refine z_istoreK X K (lv' := [(6, .int (iz v6_4)), (5, .int (iz v5_3)), (0, .ref (ad 62)), (1, .ref (ad 45)), (2, .int (iz a1)), (3, .int (iz a2)), (4, .int (iz a3))]) dX10_ends_30 rfl rfl ?_
  refine z_iload_n X 5 dX10_ends_32 rfl ?_
  refine z_bipush X 24 dX10_ends_33 rfl ?_
  refine z_bipush X 8 dX10_ends_35 rfl ?_
  refine z_iload X 1 dX10_ends_37 rfl ?_
  refine z_imul X dX10_ends_39 ?_
  refine z_isub X dX10_ends_40 ?_
  refine z_ishr X dX10_ends_41 ?_
  refine z_iconst X 1 dX10_ends_42 ?_
  refine z_iload X 0 dX10_ends_43 rfl ?_
  refine z_ishl X dX10_ends_45 ?_
  refine z_iconst X 1 dX10_ends_46 ?_
  refine z_isub X dX10_ends_47 ?_
  refine z_iand X dX10_ends_48 ?_
  obtain ⟨i5, h⟩ := h
  refine z_if_eq X 60 dX10_ends_49 rfl i5 (fun c6 => ?_) (fun c6 => ?_)
  · have h := h.1 c6
    refine z_aload_n X 3 dX10_ends_60 rfl ?_
    refine z_iload_n X 4 dX10_ends_61 rfl ?_
    refine z_iload X 1 dX10_ends_62 rfl ?_
    refine z_iadd X dX10_ends_64 ?_
    refine pC_X10_21_X4 X K (Or.inl rfl) dX10_ends_65 (fun σ7 eσ7 => ?_)
    have h := h σ7 eσ7
    exact hR _ _ _ _ _ _ dX10_ends_68 (Nat.le_refl 0) (Nat.le_refl 0) h
  · have h := h.2 c6
    exact h.elim
/- X10_ends -/
set_option maxRecDepth 100000 in
theorem mtx_X10_ends (l : Launch) (D : va_G) (ds : Nat → ClassId) (ad : Nat → Nat) (a1 : Int) (a2 : Int) (a3 : Int) (σ : ZS) (post : ZS → Prop) (h : wx_X10_ends a1 a2 a3 σ post) : ZMetX l (ΘC D ds ad) yX10_ends cX10_ends 7 none 5 104 [.ref (ad 62), .ref (ad 45), .int (iz a1), .int (iz a2), .int (iz a3)] σ post := by
  refine ZMetX.of (by decide) (Nat.le_of_ble_eq_true rfl) (fun Γ X K hR => ?_)
  have X : ZX Γ cX10_ends RX10 5 104 := X
  refine z_sub [0, 1, 2, 3, 4] (lv' := [(0, .ref (ad 62)), (1, .ref (ad 45)), (2, .int (iz a1)), (3, .int (iz a2)), (4, .int (iz a3))]) rfl ?_
  refine z_bipush X 6 dX10_ends_0 rfl ?_
  refine z_iload X 4 dX10_ends_2 rfl ?_
  refine z_imul X dX10_ends_4 ?_
  refine z_bipush X 6 dX10_ends_5 rfl ?_
  refine z_iadd X dX10_ends_7 ?_
  refine z_bipush X 7 dX10_ends_8 rfl ?_
  refine z_iadd X dX10_ends_10 ?_
  refine z_bipush X 8 dX10_ends_11 rfl ?_
  obtain ⟨i1, h⟩ := h
  obtain ⟨g2, h⟩ := h
  refine z_idiv X dX10_ends_13 ⟨i1, (by decide), g2, (by decide)⟩ ?_
  refine z_topi (fun v5_3 ev5_3 => ?_)
  have h := h v5_3 ev5_3
  refine z_istoreK X K (lv' := [(5, .int (iz v5_3)), (0, .ref (ad 62)), (1, .ref (ad 45)), (2, .int (iz a1)), (3, .int (iz a2)), (4, .int (iz a3))]) dX10_ends_14 rfl rfl ?_
  refine z_bipush X 8 dX10_ends_16 rfl ?_
  refine z_iload X 0 dX10_ends_18 rfl ?_
  refine z_imul X dX10_ends_20 ?_
  refine z_bipush X 6 dX10_ends_21 rfl ?_
  refine z_iload X 5 dX10_ends_23 rfl ?_
  refine z_imul X dX10_ends_25 ?_
  refine z_isub X dX10_ends_26 ?_
  refine z_bipush X 6 dX10_ends_27 rfl ?_
  refine z_isub X dX10_ends_29 ?_
  refine z_topi (fun v6_4 ev6_4 => ?_)
  have h := h v6_4 ev6_4
  refine z_istoreK X K (lv' := [(6, .int (iz v6_4)), (5, .int (iz v5_3)), (0, .ref (ad 62)), (1, .ref (ad 45)), (2, .int (iz a1)), (3, .int (iz a2)), (4, .int (iz a3))]) dX10_ends_30 rfl rfl ?_
  refine z_iload_n X 5 dX10_ends_32 rfl ?_
  refine z_bipush X 24 dX10_ends_33 rfl ?_
  refine z_bipush X 8 dX10_ends_35 rfl ?_
  refine z_iload X 1 dX10_ends_37 rfl ?_
  refine z_imul X dX10_ends_39 ?_
  refine z_isub X dX10_ends_40 ?_
  refine z_ishr X dX10_ends_41 ?_
  refine z_iconst X 1 dX10_ends_42 ?_
  refine z_iload X 0 dX10_ends_43 rfl ?_
  refine z_ishl X dX10_ends_45 ?_
  refine z_iconst X 1 dX10_ends_46 ?_
  refine z_isub X dX10_ends_47 ?_
  refine z_iand X dX10_ends_48 ?_
  obtain ⟨i5, h⟩ := h
  refine z_if_eq X 60 dX10_ends_49 rfl i5 (fun c6 => ?_) (fun c6 => ?_)
  · have h := h.1 c6
    refine z_aload_n X 3 dX10_ends_60 rfl ?_
    refine z_iload_n X 4 dX10_ends_61 rfl ?_
    refine z_iload X 1 dX10_ends_62 rfl ?_
    refine z_iadd X dX10_ends_64 ?_
    refine pC_X10_21_X4 X K (Or.inl rfl) dX10_ends_65 (fun σ7 eσ7 => ?_)
    have h := h σ7 eσ7
    exact h.elim
  · have h := h.2 c6
    exact z_throwNS q1052 q1053 X K rfl dX10_ends_52 dX10_ends_55 dX10_ends_56 dX10_ends_59 (Nat.le_of_ble_eq_true rfl) ⟨Nat.le_refl 1, Nat.le_refl 6⟩ (fun q => hR _ _ _ _ _ _ _ q (Nat.le_refl 1) (Nat.le_refl 6) h)
/- X10_read -/
theorem clc_X10_32 {Γ : ZG} {cc : ByteArray} {fr lo nL mc0 ms0 k n pc : Nat} {xs : va_W} {lv : List (Nat × Value)} {st : List Value} {l : Launch} {D : va_G} {ds : Nat → ClassId} {ad : Nat → Nat} {a0 : Int} {σ : ZS} {post : ZS → Prop} (X : ZX Γ cc RX10 fr lo) (K : ZCap Γ l (ΘC D ds ad) nL mc0 ms0) (hrm : zroom 3 45 fr lo = true) (h : wc_X4_tell a0 σ post) (hst : (st.map fun v => v.category).sum ≤ 8) (d : decode cc pc = .ok (.invokevirtual 32, 3)) (hcs : k ≤ mc0 ∧ n ≤ ms0) (kk : ∀ (σ' : ZS), post σ' → Z Γ k n σ' xs (pc + 3) lv (st)) : Z Γ k n σ xs pc lv (.int (iz a0) :: .ref (ad 45) :: st) := 
  z_callVV' (C := RX4) (q0 := 45) X K (mtc_X4_tell l D ds ad a0 σ post h) (Nat.le_of_ble_eq_true rfl) rfl rfl rfl (lw_V q1054 q1019 q1020 q111 q1021) ⟨rfl, by decide, by decide, rfl⟩ (zroom_of (zroom_le hrm (by decide))) ⟨by rw [K.2.2.2.1]; exact hcs.1, by rw [K.2.2.2.2]; exact hcs.2⟩ hst d rfl kk
theorem clc_X10_28 {Γ : ZG} {cc : ByteArray} {fr lo nL mc0 ms0 k n pc : Nat} {xs : va_W} {lv : List (Nat × Value)} {st : List Value} {l : Launch} {D : va_G} {ds : Nat → ClassId} {ad : Nat → Nat} {a1 : Int} {a2 : Int} {a3 : Int} {σ : ZS} {post : ZS → Prop} (X : ZX Γ cc RX10 fr lo) (K : ZCap Γ l (ΘC D ds ad) nL mc0 ms0) (hrm : zroom 6 130 fr lo = true) (h : wc_X10_ends a1 a2 a3 σ post) (hst : (st.map fun v => v.category).sum ≤ 8) (d : decode cc pc = .ok (.invokevirtual 28, 3)) (hcs : k ≤ mc0 ∧ n ≤ ms0) (kk : ∀ (σ' : ZS), post σ' → Z Γ k n σ' xs (pc + 3) lv (st)) : Z Γ k n σ xs pc lv (.int (iz a3) :: .int (iz a2) :: .int (iz a1) :: .ref (ad 45) :: .ref (ad 62) :: st) := 
  z_callVV' (C := RX10) (q0 := 62) X K (mtc_X10_ends l D ds ad a1 a2 a3 σ post h) (Nat.le_of_ble_eq_true rfl) rfl rfl rfl (lw_V q1048 q1050 qs31 q124 q1051) ⟨rfl, by decide, by decide, rfl⟩ (zroom_of (zroom_le hrm (by decide))) ⟨by rw [K.2.2.2.1]; exact hcs.1, by rw [K.2.2.2.2]; exact hcs.2⟩ hst d rfl kk
theorem clc_X10_15 {Γ : ZG} {cc : ByteArray} {fr lo nL mc0 ms0 k n pc : Nat} {xs : va_W} {lv : List (Nat × Value)} {st : List Value} {l : Launch} {D : va_G} {ds : Nat → ClassId} {ad : Nat → Nat} {σ : ZS} {post : Int → ZS → Prop} (X : ZX Γ cc RX10 fr lo) (K : ZCap Γ l (ΘC D ds ad) nL mc0 ms0) (hrm : zroom 3 44 fr lo = true) (h : wc_X4_left σ post) (hst : (st.map fun v => v.category).sum ≤ 8) (d : decode cc pc = .ok (.invokevirtual 15, 3)) (hcs : k ≤ mc0 ∧ n ≤ ms0) (kk : ∀ (r : Int) (σ' : ZS), post r σ' → Z Γ k n σ' xs (pc + 3) lv (.int (iz r) :: st)) : Z Γ k n σ xs pc lv (.ref (ad 45) :: st) := 
  z_callVI' (C := RX4) (q0 := 45) X K (mtc_X4_left l D ds ad  σ post h) (Nat.le_of_ble_eq_true rfl) rfl rfl rfl (lw_V q1046 q1039 q1040 q111 q1041) ⟨rfl, by decide, by decide, rfl⟩ (zroom_of (zroom_le hrm (by decide))) ⟨by rw [K.2.2.2.1]; exact hcs.1, by rw [K.2.2.2.2]; exact hcs.2⟩ hst d rfl kk
theorem clc_X10_25 {Γ : ZG} {cc : ByteArray} {fr lo nL mc0 ms0 k n pc : Nat} {xs : va_W} {lv : List (Nat × Value)} {st : List Value} {l : Launch} {D : va_G} {ds : Nat → ClassId} {ad : Nat → Nat} {σ : ZS} {post : Int → ZS → Prop} (X : ZX Γ cc RX10 fr lo) (K : ZCap Γ l (ΘC D ds ad) nL mc0 ms0) (hrm : zroom 6 124 fr lo = true) (h : wc_X4_next σ post) (hst : (st.map fun v => v.category).sum ≤ 8) (d : decode cc pc = .ok (.invokevirtual 25, 3)) (hcs : k ≤ mc0 ∧ n ≤ ms0) (kk : ∀ (r : Int) (σ' : ZS), post r σ' → Z Γ k n σ' xs (pc + 3) lv (.int (iz r) :: st)) : Z Γ k n σ xs pc lv (.ref (ad 45) :: st) := 
  z_callVI' (C := RX4) (q0 := 45) X K (mtc_X4_next l D ds ad  σ post h) (Nat.le_of_ble_eq_true rfl) rfl rfl rfl (lw_V q1047 q992 q993 q111 q994) ⟨rfl, by decide, by decide, rfl⟩ (zroom_of (zroom_le hrm (by decide))) ⟨by rw [K.2.2.2.1]; exact hcs.1, by rw [K.2.2.2.2]; exact hcs.2⟩ hst d rfl kk
set_option maxRecDepth 100000 in
theorem wkc_X10_read_97 {Γ : ZG} {l : Launch} {D : va_G} {ds : Nat → ClassId} {ad : Nat → Nat} {post : ZS → Prop} (X : ZX Γ cX10_read RX10 6 130) (K : ZCap Γ l (ΘC D ds ad) 6 0 0) (hR : ZRetV Γ cX10_read 0 0 post) {C0 : ZS → Prop} (hC0 : ∀ (σ : ZS), C0 (σ) → Z Γ 0 0 σ [] 0 [(0, .ref (ad 62)), (1, .ref (ad 45))] []) {C41 : Int × Int × Int × ZS → Prop} (hC41 : ∀ (v2 : Int) (v3 : Int) (v4 : Int) (σ : ZS), C41 (v2, v3, v4, σ) → Z Γ 0 0 σ [] 41 [(0, .ref (ad 62)), (1, .ref (ad 45)), (2, .int (iz v2)), (3, .int (iz v3)), (4, .int (iz v4))] []) (v2 : Int) (v3 : Int) (v4 : Int) (t0 : Int) (σ : ZS) (h : wc_X10_read_97 C0 C41 post v2 v3 v4 t0 σ) : Z Γ 0 0 σ [] 97 [(0, .ref (ad 62)), (1, .ref (ad 45)), (2, .int (iz v2)), (3, .int (iz v3)), (4, .int (iz v4))] [.int (iz t0), .ref (ad 45)] := by
  refine clc_X10_32 X K rfl h (Nat.le_of_ble_eq_true rfl) dX10_read_97 ⟨Nat.zero_le _, Nat.zero_le _⟩ (fun σ1 h => ?_)
  refine z_iincK X K 4 (lv' := [(4, .int (iz (v4 + 1))), (0, .ref (ad 62)), (1, .ref (ad 45)), (2, .int (iz v2)), (3, .int (iz v3))]) dX10_read_100 rfl rfl rfl ?_
  refine z_goto (tgt := 41) X dX10_read_103 rfl ?_
  exact z_sub [1, 2, 3, 4, 0] rfl (hC41 _ _ _ _ h)
set_option maxRecDepth 100000 in
theorem wkc_X10_read_41 {Γ : ZG} {l : Launch} {D : va_G} {ds : Nat → ClassId} {ad : Nat → Nat} {post : ZS → Prop} (X : ZX Γ cX10_read RX10 6 130) (K : ZCap Γ l (ΘC D ds ad) 6 0 0) (hR : ZRetV Γ cX10_read 0 0 post) {C0 : ZS → Prop} (hC0 : ∀ (σ : ZS), C0 (σ) → Z Γ 0 0 σ [] 0 [(0, .ref (ad 62)), (1, .ref (ad 45))] []) : ∀ (N : Nat) (v2 : Int) (v3 : Int) (v4 : Int) (σ : ZS), zfix (wbc_X10_read_41 C0 post) N (v2, v3, v4, σ) → Z Γ 0 0 σ [] 41 [(0, .ref (ad 62)), (1, .ref (ad 45)), (2, .int (iz v2)), (3, .int (iz v3)), (4, .int (iz v4))] [] := by
  intro N
  induction N with
  | zero => intro v2 v3 v4 σ h; exact False.elim h
  | succ N ih =>
    intro v2 v3 v4 σ h
    have h : wbc_X10_read_41 C0 post (zfix (wbc_X10_read_41 C0 post) N) (v2, v3, v4, σ) := h
    have hC41 := ih
    clear ih
    generalize zfix (wbc_X10_read_41 C0 post) N = C41 at h hC41
    dsimp only [wbc_X10_read_41] at h
    refine z_iload X 4 dX10_read_41 rfl ?_
    refine z_iconst X 4 dX10_read_43 ?_
    obtain ⟨i1, h⟩ := h
    refine z_icmp_ge X 106 dX10_read_44 rfl i1 (by decide) (fun c2 => ?_) (fun c2 => ?_)
    · have h := h.1 c2
      refine z_goto (tgt := 0) X dX10_read_106 rfl ?_
      exact z_sub [0, 1] rfl (hC0 _ h)
    · have h := h.2 c2
      refine z_iload_n X 3 dX10_read_47 rfl ?_
      refine z_bipush X 18 dX10_read_48 rfl ?_
      refine z_bipush X 6 dX10_read_50 rfl ?_
      refine z_iload X 4 dX10_read_52 rfl ?_
      refine z_imul X dX10_read_54 ?_
      refine z_isub X dX10_read_55 ?_
      refine z_ishr X dX10_read_56 ?_
      refine z_bipush X 63 dX10_read_57 rfl ?_
      refine z_iandm X 6 (M := 64) rfl rfl rfl dX10_read_59 ?_
      refine z_topi (fun v5_3 ev5_3 => ?_)
      have h := h v5_3 ev5_3
      refine z_istoreK X K (lv' := [(5, .int (iz v5_3)), (0, .ref (ad 62)), (1, .ref (ad 45)), (2, .int (iz v2)), (3, .int (iz v3)), (4, .int (iz v4))]) dX10_read_60 rfl rfl ?_
      refine z_iload X 0 dX10_read_62 rfl ?_
      refine z_bipush X 31 dX10_read_64 rfl ?_
      obtain ⟨i4, h⟩ := h
      refine z_icmp_ne X 79 dX10_read_66 rfl i4 (by decide) (fun c5 => ?_) (fun c5 => ?_)
      · have h := h.1 c5
        refine z_aload_n X 2 dX10_read_79 rfl ?_
        refine z_iload X 0 dX10_read_80 rfl ?_
        refine z_bipush X 31 dX10_read_82 rfl ?_
        refine z_icmp_ge X 95 dX10_read_84 rfl i4 (by decide) (fun c6 => ?_) (fun c6 => ?_)
        · have h := h.1 c6
          refine z_iload X 0 dX10_read_95 rfl ?_
          exact z_sub [1, 2, 3, 4, 5] rfl (wkc_X10_read_97 X K hR hC0 hC41 _ _ _ _ _ h)
        · have h := h.2 c6
          refine z_iload X 0 dX10_read_87 rfl ?_
          refine z_bipush X 64 dX10_read_89 rfl ?_
          refine z_iadd X dX10_read_91 ?_
          refine z_goto (tgt := 97) X dX10_read_92 rfl ?_
          exact z_sub [1, 2, 3, 4, 5] rfl (wkc_X10_read_97 X K hR hC0 hC41 _ _ _ _ _ h)
      · have h := h.2 c5
        refine z_aload_n X 1 dX10_read_69 rfl ?_
        refine z_aload_n X 2 dX10_read_70 rfl ?_
        refine z_iload_n X 3 dX10_read_71 rfl ?_
        refine z_iload_n X 4 dX10_read_72 rfl ?_
        refine z_iload X 5 dX10_read_73 rfl ?_
        refine clc_X10_28 X K rfl h (Nat.le_of_ble_eq_true rfl) dX10_read_75 ⟨Nat.zero_le _, Nat.zero_le _⟩ (fun σ7 h => ?_)
        exact hR _ _ _ _ _ _ dX10_read_78 (Nat.le_refl 0) (Nat.le_refl 0) h
set_option maxRecDepth 100000 in
theorem wkc_X10_read_0 {Γ : ZG} {l : Launch} {D : va_G} {ds : Nat → ClassId} {ad : Nat → Nat} {post : ZS → Prop} (X : ZX Γ cX10_read RX10 6 130) (K : ZCap Γ l (ΘC D ds ad) 6 0 0) (hR : ZRetV Γ cX10_read 0 0 post) : ∀ (N : Nat) (σ : ZS), zfix (wbc_X10_read_0 post) N (σ) → Z Γ 0 0 σ [] 0 [(0, .ref (ad 62)), (1, .ref (ad 45))] [] := by
  intro N
  induction N with
  | zero => intro  σ h; exact False.elim h
  | succ N ih =>
    intro  σ h
    have h : wbc_X10_read_0 post (zfix (wbc_X10_read_0 post) N) (σ) := h
    have hC0 := ih
    clear ih
    generalize zfix (wbc_X10_read_0 post) N = C0 at h hC0
    dsimp only [wbc_X10_read_0] at h
    refine z_aload_n X 1 dX10_read_0 rfl ?_
    refine clc_X10_15 X K rfl h (Nat.le_of_ble_eq_true rfl) dX10_read_1 ⟨Nat.zero_le _, Nat.zero_le _⟩ (fun r2 σ1 h => ?_)
    refine z_iconst X 3 dX10_read_4 ?_
    obtain ⟨i3, h⟩ := h
    refine z_icmp_lt X 109 dX10_read_5 rfl i3 (by decide) (fun c4 => ?_) (fun c4 => ?_)
    · have h := h.1 c4
      exact hR _ _ _ _ _ _ dX10_read_109 (Nat.le_refl 0) (Nat.le_refl 0) h
    · have h := h.2 c4
      refine z_aload_n X 1 dX10_read_8 rfl ?_
      refine gC_X10_21_X4 X K (Or.inl rfl) dX10_read_9 ?_
      refine z_topi (fun v2_5 ev2_5 => ?_)
      have h := h v2_5 ev2_5
      refine z_istore_nK X K (lv' := [(2, .int (iz v2_5)), (0, .ref (ad 62)), (1, .ref (ad 45))]) dX10_read_12 rfl rfl ?_
      refine z_aload_n X 2 dX10_read_13 rfl ?_
      refine clc_X10_25 X K rfl h (Nat.le_of_ble_eq_true rfl) dX10_read_14 ⟨Nat.zero_le _, Nat.zero_le _⟩ (fun r7 σ6 h => ?_)
      refine z_bipush X 16 dX10_read_17 rfl ?_
      refine z_ishlm X 16 (M := 65536) rfl rfl rfl dX10_read_19 ?_
      refine z_topi (fun v3_8 ev3_8 => ?_)
      have h := h v3_8 ev3_8
      refine z_istore_nK X K (lv' := [(3, .int (iz v3_8)), (2, .int (iz v2_5)), (0, .ref (ad 62)), (1, .ref (ad 45))]) dX10_read_20 rfl rfl ?_
      refine z_iload_n X 0 dX10_read_21 rfl ?_
      refine z_aload_n X 3 dX10_read_22 rfl ?_
      refine clc_X10_25 X K rfl h (Nat.le_of_ble_eq_true rfl) dX10_read_23 ⟨Nat.zero_le _, Nat.zero_le _⟩ (fun r10 σ9 h => ?_)
      refine z_bipush X 8 dX10_read_26 rfl ?_
      refine z_ishlm X 8 (M := 256) rfl rfl rfl dX10_read_28 ?_
      refine z_ior X dX10_read_29 ?_
      refine z_topi (fun v3_11 ev3_11 => ?_)
      have h := h v3_11 ev3_11
      refine z_istore_nK X K (lv' := [(3, .int (iz v3_11)), (2, .int (iz v2_5)), (0, .ref (ad 62)), (1, .ref (ad 45))]) dX10_read_30 rfl rfl ?_
      refine z_iload_n X 0 dX10_read_31 rfl ?_
      refine z_aload_n X 3 dX10_read_32 rfl ?_
      refine clc_X10_25 X K rfl h (Nat.le_of_ble_eq_true rfl) dX10_read_33 ⟨Nat.zero_le _, Nat.zero_le _⟩ (fun r13 σ12 h => ?_)
      refine z_ior X dX10_read_36 ?_
      refine z_topi (fun v3_14 ev3_14 => ?_)
      have h := h v3_14 ev3_14
      refine z_istore_nK X K (lv' := [(3, .int (iz v3_14)), (2, .int (iz v2_5)), (0, .ref (ad 62)), (1, .ref (ad 45))]) dX10_read_37 rfl rfl ?_
      refine z_iconst X 0 dX10_read_38 ?_
      refine z_istoreK X K (lv' := [(4, .int (iz 0)), (3, .int (iz v3_14)), (2, .int (iz v2_5)), (0, .ref (ad 62)), (1, .ref (ad 45))]) dX10_read_39 rfl rfl ?_
      obtain ⟨N, h⟩ := h
      exact z_sub [3, 4, 2, 1, 0] rfl (wkc_X10_read_41 X K hR hC0 N _ _ _ _ h)
set_option maxRecDepth 100000 in
theorem mtc_X10_read (l : Launch) (D : va_G) (ds : Nat → ClassId) (ad : Nat → Nat) (σ : ZS) (post : ZS → Prop) (h : wc_X10_read  σ post) : ZMetV l (ΘC D ds ad) yX10_read cX10_read 6 6 130 0 0 [.ref (ad 62), .ref (ad 45)] σ post := by
  refine ZMetV.of (by decide) (Nat.le_of_ble_eq_true rfl) (fun Γ X K hR => ?_)
  have X : ZX Γ cX10_read RX10 6 130 := X
  refine z_sub [0, 1] (lv' := [(0, .ref (ad 62)), (1, .ref (ad 45))]) rfl ?_
  obtain ⟨N, h⟩ := h
  exact z_sub [0, 1] rfl (wkc_X10_read_0 X K hR N _ h)
/- X10_read -/
theorem clx_X10_28 {Γ : ZG} {cc : ByteArray} {fr lo nL mc0 ms0 k n pc : Nat} {xs : va_W} {lv : List (Nat × Value)} {st : List Value} {l : Launch} {D : va_G} {ds : Nat → ClassId} {ad : Nat → Nat} {a1 : Int} {a2 : Int} {a3 : Int} {σ : ZS} {post : ZS → Prop} (X : ZX Γ cc RX10 fr lo) (K : ZCap Γ l (ΘC D ds ad) nL mc0 ms0) (hrm : zroom 6 130 fr lo = true) (h : wx_X10_ends a1 a2 a3 σ post) (hst : (st.map fun v => v.category).sum ≤ 8) (d : decode cc pc = .ok (.invokevirtual 28, 3)) (hcs : k + 1 ≤ mc0 ∧ n + 6 ≤ ms0) (kk : ∀ (σ' : ZS) (q : Nat), post σ' → ZThrow Γ (k + 1) (n + 6) σ' xs pc lv st q) : Z Γ k n σ xs pc lv (.int (iz a3) :: .int (iz a2) :: .int (iz a1) :: .ref (ad 45) :: .ref (ad 62) :: st) := 
  z_callVX' (C := RX10) (q0 := 62) X K (mtx_X10_ends l D ds ad a1 a2 a3 σ post h) (Nat.le_of_ble_eq_true rfl) rfl rfl rfl (lw_V q1048 q1050 qs31 q124 q1051) ⟨rfl, by decide, by decide, rfl⟩ (zroom_of (zroom_le hrm (by decide))) ⟨by rw [K.2.2.2.1]; exact hcs.1, by rw [K.2.2.2.2]; exact hcs.2⟩ hst d rfl kk
theorem clx_X10_25 {Γ : ZG} {cc : ByteArray} {fr lo nL mc0 ms0 k n pc : Nat} {xs : va_W} {lv : List (Nat × Value)} {st : List Value} {l : Launch} {D : va_G} {ds : Nat → ClassId} {ad : Nat → Nat} {σ : ZS} {post : ZS → Prop} (X : ZX Γ cc RX10 fr lo) (K : ZCap Γ l (ΘC D ds ad) nL mc0 ms0) (hrm : zroom 6 124 fr lo = true) (h : wx_X4_next σ post) (hst : (st.map fun v => v.category).sum ≤ 8) (d : decode cc pc = .ok (.invokevirtual 25, 3)) (hcs : k + 1 ≤ mc0 ∧ n + 6 ≤ ms0) (kk : ∀ (σ' : ZS) (q : Nat), post σ' → ZThrow Γ (k + 1) (n + 6) σ' xs pc lv st q) : Z Γ k n σ xs pc lv (.ref (ad 45) :: st) := 
  z_callVX' (C := RX4) (q0 := 45) X K (mtx_X4_next l D ds ad  σ post h) (Nat.le_of_ble_eq_true rfl) rfl rfl rfl (lw_V q1047 q992 q993 q111 q994) ⟨rfl, by decide, by decide, rfl⟩ (zroom_of (zroom_le hrm (by decide))) ⟨by rw [K.2.2.2.1]; exact hcs.1, by rw [K.2.2.2.2]; exact hcs.2⟩ hst d rfl kk
set_option maxRecDepth 100000 in
theorem wkx_X10_read_97 {Γ : ZG} {l : Launch} {D : va_G} {ds : Nat → ClassId} {ad : Nat → Nat} {post : ZS → Prop} (X : ZX Γ cX10_read RX10 6 130) (K : ZCap Γ l (ΘC D ds ad) 6 1 6) (hR : ZOut Γ post) {C0 : ZS → Prop} (hC0 : ∀ (σ : ZS), C0 (σ) → Z Γ 0 0 σ [] 0 [(0, .ref (ad 62)), (1, .ref (ad 45))] []) {C41 : Int × Int × Int × ZS → Prop} (hC41 : ∀ (v2 : Int) (v3 : Int) (v4 : Int) (σ : ZS), C41 (v2, v3, v4, σ) → Z Γ 0 0 σ [] 41 [(0, .ref (ad 62)), (1, .ref (ad 45)), (2, .int (iz v2)), (3, .int (iz v3)), (4, .int (iz v4))] []) (v2 : Int) (v3 : Int) (v4 : Int) (t0 : Int) (σ : ZS) (h : wx_X10_read_97 C0 C41 post v2 v3 v4 t0 σ) : Z Γ 0 0 σ [] 97 [(0, .ref (ad 62)), (1, .ref (ad 45)), (2, .int (iz v2)), (3, .int (iz v3)), (4, .int (iz v4))] [.int (iz t0), .ref (ad 45)] := by
  refine clc_X10_32 X K rfl h (Nat.le_of_ble_eq_true rfl) dX10_read_97 ⟨Nat.zero_le _, Nat.zero_le _⟩ (fun σ1 h => ?_)
  refine z_iincK X K 4 (lv' := [(4, .int (iz (v4 + 1))), (0, .ref (ad 62)), (1, .ref (ad 45)), (2, .int (iz v2)), (3, .int (iz v3))]) dX10_read_100 rfl rfl rfl ?_
  refine z_goto (tgt := 41) X dX10_read_103 rfl ?_
  exact z_sub [1, 2, 3, 4, 0] rfl (hC41 _ _ _ _ h)
set_option maxRecDepth 100000 in
theorem wkx_X10_read_41 {Γ : ZG} {l : Launch} {D : va_G} {ds : Nat → ClassId} {ad : Nat → Nat} {post : ZS → Prop} (X : ZX Γ cX10_read RX10 6 130) (K : ZCap Γ l (ΘC D ds ad) 6 1 6) (hR : ZOut Γ post) {C0 : ZS → Prop} (hC0 : ∀ (σ : ZS), C0 (σ) → Z Γ 0 0 σ [] 0 [(0, .ref (ad 62)), (1, .ref (ad 45))] []) : ∀ (N : Nat) (v2 : Int) (v3 : Int) (v4 : Int) (σ : ZS), zfix (wbx_X10_read_41 C0 post) N (v2, v3, v4, σ) → Z Γ 0 0 σ [] 41 [(0, .ref (ad 62)), (1, .ref (ad 45)), (2, .int (iz v2)), (3, .int (iz v3)), (4, .int (iz v4))] [] := by
  intro N
  induction N with
  | zero => intro v2 v3 v4 σ h; exact False.elim h
  | succ N ih =>
    intro v2 v3 v4 σ h
    have h : wbx_X10_read_41 C0 post (zfix (wbx_X10_read_41 C0 post) N) (v2, v3, v4, σ) := h
    have hC41 := ih
    clear ih
    generalize zfix (wbx_X10_read_41 C0 post) N = C41 at h hC41
    dsimp only [wbx_X10_read_41] at h
    refine z_iload X 4 dX10_read_41 rfl ?_
    refine z_iconst X 4 dX10_read_43 ?_
    obtain ⟨i1, h⟩ := h
    refine z_icmp_ge X 106 dX10_read_44 rfl i1 (by decide) (fun c2 => ?_) (fun c2 => ?_)
    · have h := h.1 c2
      refine z_goto (tgt := 0) X dX10_read_106 rfl ?_
      exact z_sub [0, 1] rfl (hC0 _ h)
    · have h := h.2 c2
      refine z_iload_n X 3 dX10_read_47 rfl ?_
      refine z_bipush X 18 dX10_read_48 rfl ?_
      refine z_bipush X 6 dX10_read_50 rfl ?_
      refine z_iload X 4 dX10_read_52 rfl ?_
      refine z_imul X dX10_read_54 ?_
      refine z_isub X dX10_read_55 ?_
      refine z_ishr X dX10_read_56 ?_
      refine z_bipush X 63 dX10_read_57 rfl ?_
      refine z_iandm X 6 (M := 64) rfl rfl rfl dX10_read_59 ?_
      refine z_topi (fun v5_3 ev5_3 => ?_)
      have h := h v5_3 ev5_3
      refine z_istoreK X K (lv' := [(5, .int (iz v5_3)), (0, .ref (ad 62)), (1, .ref (ad 45)), (2, .int (iz v2)), (3, .int (iz v3)), (4, .int (iz v4))]) dX10_read_60 rfl rfl ?_
      refine z_iload X 0 dX10_read_62 rfl ?_
      refine z_bipush X 31 dX10_read_64 rfl ?_
      obtain ⟨i4, h⟩ := h
      refine z_icmp_ne X 79 dX10_read_66 rfl i4 (by decide) (fun c5 => ?_) (fun c5 => ?_)
      · have h := h.1 c5
        refine z_aload_n X 2 dX10_read_79 rfl ?_
        refine z_iload X 0 dX10_read_80 rfl ?_
        refine z_bipush X 31 dX10_read_82 rfl ?_
        refine z_icmp_ge X 95 dX10_read_84 rfl i4 (by decide) (fun c6 => ?_) (fun c6 => ?_)
        · have h := h.1 c6
          refine z_iload X 0 dX10_read_95 rfl ?_
          exact z_sub [1, 2, 3, 4, 5] rfl (wkx_X10_read_97 X K hR hC0 hC41 _ _ _ _ _ h)
        · have h := h.2 c6
          refine z_iload X 0 dX10_read_87 rfl ?_
          refine z_bipush X 64 dX10_read_89 rfl ?_
          refine z_iadd X dX10_read_91 ?_
          refine z_goto (tgt := 97) X dX10_read_92 rfl ?_
          exact z_sub [1, 2, 3, 4, 5] rfl (wkx_X10_read_97 X K hR hC0 hC41 _ _ _ _ _ h)
      · have h := h.2 c5
        refine z_aload_n X 1 dX10_read_69 rfl ?_
        refine z_aload_n X 2 dX10_read_70 rfl ?_
        refine z_iload_n X 3 dX10_read_71 rfl ?_
        refine z_iload_n X 4 dX10_read_72 rfl ?_
        refine z_iload X 5 dX10_read_73 rfl ?_
        rcases h with h | h
        · refine clc_X10_28 X K rfl h (Nat.le_of_ble_eq_true rfl) dX10_read_75 ⟨Nat.zero_le _, Nat.zero_le _⟩ (fun σ7 h => ?_)
          exact h.elim
        · exact clx_X10_28 X K rfl h (Nat.le_of_ble_eq_true rfl) dX10_read_75 ⟨Nat.le_refl 1, Nat.le_refl 6⟩ (fun _ q h => hR _ _ _ _ _ _ _ q (Nat.le_refl 1) (Nat.le_refl 6) h)
set_option maxRecDepth 100000 in
theorem wkx_X10_read_0 {Γ : ZG} {l : Launch} {D : va_G} {ds : Nat → ClassId} {ad : Nat → Nat} {post : ZS → Prop} (X : ZX Γ cX10_read RX10 6 130) (K : ZCap Γ l (ΘC D ds ad) 6 1 6) (hR : ZOut Γ post) : ∀ (N : Nat) (σ : ZS), zfix (wbx_X10_read_0 post) N (σ) → Z Γ 0 0 σ [] 0 [(0, .ref (ad 62)), (1, .ref (ad 45))] [] := by
  intro N
  induction N with
  | zero => intro  σ h; exact False.elim h
  | succ N ih =>
    intro  σ h
    have h : wbx_X10_read_0 post (zfix (wbx_X10_read_0 post) N) (σ) := h
    have hC0 := ih
    clear ih
    generalize zfix (wbx_X10_read_0 post) N = C0 at h hC0
    dsimp only [wbx_X10_read_0] at h
    refine z_aload_n X 1 dX10_read_0 rfl ?_
    refine clc_X10_15 X K rfl h (Nat.le_of_ble_eq_true rfl) dX10_read_1 ⟨Nat.zero_le _, Nat.zero_le _⟩ (fun r2 σ1 h => ?_)
    refine z_iconst X 3 dX10_read_4 ?_
    obtain ⟨i3, h⟩ := h
    refine z_icmp_lt X 109 dX10_read_5 rfl i3 (by decide) (fun c4 => ?_) (fun c4 => ?_)
    · have h := h.1 c4
      exact h.elim
    · have h := h.2 c4
      refine z_aload_n X 1 dX10_read_8 rfl ?_
      refine gC_X10_21_X4 X K (Or.inl rfl) dX10_read_9 ?_
      refine z_topi (fun v2_5 ev2_5 => ?_)
      have h := h v2_5 ev2_5
      refine z_istore_nK X K (lv' := [(2, .int (iz v2_5)), (0, .ref (ad 62)), (1, .ref (ad 45))]) dX10_read_12 rfl rfl ?_
      refine z_aload_n X 2 dX10_read_13 rfl ?_
      rcases h with h | h
      · refine clc_X10_25 X K rfl h (Nat.le_of_ble_eq_true rfl) dX10_read_14 ⟨Nat.zero_le _, Nat.zero_le _⟩ (fun r7 σ6 h => ?_)
        refine z_bipush X 16 dX10_read_17 rfl ?_
        refine z_ishlm X 16 (M := 65536) rfl rfl rfl dX10_read_19 ?_
        refine z_topi (fun v3_8 ev3_8 => ?_)
        have h := h v3_8 ev3_8
        refine z_istore_nK X K (lv' := [(3, .int (iz v3_8)), (2, .int (iz v2_5)), (0, .ref (ad 62)), (1, .ref (ad 45))]) dX10_read_20 rfl rfl ?_
        refine z_iload_n X 0 dX10_read_21 rfl ?_
        refine z_aload_n X 3 dX10_read_22 rfl ?_
        rcases h with h | h
        · refine clc_X10_25 X K rfl h (Nat.le_of_ble_eq_true rfl) dX10_read_23 ⟨Nat.zero_le _, Nat.zero_le _⟩ (fun r10 σ9 h => ?_)
          refine z_bipush X 8 dX10_read_26 rfl ?_
          refine z_ishlm X 8 (M := 256) rfl rfl rfl dX10_read_28 ?_
          refine z_ior X dX10_read_29 ?_
          refine z_topi (fun v3_11 ev3_11 => ?_)
          have h := h v3_11 ev3_11
          refine z_istore_nK X K (lv' := [(3, .int (iz v3_11)), (2, .int (iz v2_5)), (0, .ref (ad 62)), (1, .ref (ad 45))]) dX10_read_30 rfl rfl ?_
          refine z_iload_n X 0 dX10_read_31 rfl ?_
          refine z_aload_n X 3 dX10_read_32 rfl ?_
          rcases h with h | h
          · refine clc_X10_25 X K rfl h (Nat.le_of_ble_eq_true rfl) dX10_read_33 ⟨Nat.zero_le _, Nat.zero_le _⟩ (fun r13 σ12 h => ?_)
            refine z_ior X dX10_read_36 ?_
            refine z_topi (fun v3_14 ev3_14 => ?_)
            have h := h v3_14 ev3_14
            refine z_istore_nK X K (lv' := [(3, .int (iz v3_14)), (2, .int (iz v2_5)), (0, .ref (ad 62)), (1, .ref (ad 45))]) dX10_read_37 rfl rfl ?_
            refine z_iconst X 0 dX10_read_38 ?_
            refine z_istoreK X K (lv' := [(4, .int (iz 0)), (3, .int (iz v3_14)), (2, .int (iz v2_5)), (0, .ref (ad 62)), (1, .ref (ad 45))]) dX10_read_39 rfl rfl ?_
            obtain ⟨N, h⟩ := h
            exact z_sub [3, 4, 2, 1, 0] rfl (wkx_X10_read_41 X K hR hC0 N _ _ _ _ h)
          · exact clx_X10_25 X K rfl h (Nat.le_of_ble_eq_true rfl) dX10_read_33 ⟨Nat.le_refl 1, Nat.le_refl 6⟩ (fun _ q h => hR _ _ _ _ _ _ _ q (Nat.le_refl 1) (Nat.le_refl 6) h)
        · exact clx_X10_25 X K rfl h (Nat.le_of_ble_eq_true rfl) dX10_read_23 ⟨Nat.le_refl 1, Nat.le_refl 6⟩ (fun _ q h => hR _ _ _ _ _ _ _ q (Nat.le_refl 1) (Nat.le_refl 6) h)
      · exact clx_X10_25 X K rfl h (Nat.le_of_ble_eq_true rfl) dX10_read_14 ⟨Nat.le_refl 1, Nat.le_refl 6⟩ (fun _ q h => hR _ _ _ _ _ _ _ q (Nat.le_refl 1) (Nat.le_refl 6) h)
set_option maxRecDepth 100000 in
theorem mtx_X10_read (l : Launch) (D : va_G) (ds : Nat → ClassId) (ad : Nat → Nat) (σ : ZS) (post : ZS → Prop) (h : wx_X10_read  σ post) : ZMetX l (ΘC D ds ad) yX10_read cX10_read 6 none 6 130 [.ref (ad 62), .ref (ad 45)] σ post := by
  refine ZMetX.of (by decide) (Nat.le_of_ble_eq_true rfl) (fun Γ X K hR => ?_)
  have X : ZX Γ cX10_read RX10 6 130 := X
  refine z_sub [0, 1] (lv' := [(0, .ref (ad 62)), (1, .ref (ad 45))]) rfl ?_
  obtain ⟨N, h⟩ := h
  exact z_sub [0, 1] rfl (wkx_X10_read_0 X K hR N _ h)
/- X11_told -/
theorem clc_X11_9 {Γ : ZG} {cc : ByteArray} {fr lo nL mc0 ms0 k n pc : Nat} {xs : va_W} {lv : List (Nat × Value)} {st : List Value} {l : Launch} {D : va_G} {ds : Nat → ClassId} {ad : Nat → Nat} {σ : ZS} {post : Int → ZS → Prop} (X : ZX Γ cc RX11 fr lo) (K : ZCap Γ l (ΘC D ds ad) nL mc0 ms0) (hrm : zroom 6 124 fr lo = true) (h : wc_X4_next σ post) (hst : (st.map fun v => v.category).sum ≤ 8) (d : decode cc pc = .ok (.invokevirtual 9, 3)) (hcs : k ≤ mc0 ∧ n ≤ ms0) (kk : ∀ (r : Int) (σ' : ZS), post r σ' → Z Γ k n σ' xs (pc + 3) lv (.int (iz r) :: st)) : Z Γ k n σ xs pc lv (.ref (ad 45) :: st) := 
  z_callVI' (C := RX4) (q0 := 45) X K (mtc_X4_next l D ds ad  σ post h) (Nat.le_of_ble_eq_true rfl) rfl rfl rfl (lw_V q1037 q992 q993 q111 q994) ⟨rfl, by decide, by decide, rfl⟩ (zroom_of (zroom_le hrm (by decide))) ⟨by rw [K.2.2.2.1]; exact hcs.1, by rw [K.2.2.2.2]; exact hcs.2⟩ hst d rfl kk
set_option maxRecDepth 100000 in
theorem mtc_X11_told (l : Launch) (D : va_G) (ds : Nat → ClassId) (ad : Nat → Nat) (σ : ZS) (post : Int → ZS → Prop) (h : wc_X11_told  σ post) : ZMetI l (ΘC D ds ad) yX11_told cX11_told 2 .int 6 124 0 0 [.ref (ad 45)] σ post := by
  refine ZMetI.of (by decide) (Nat.le_of_ble_eq_true rfl) (fun Γ X K hR => ?_)
  have X : ZX Γ cX11_told RX11 6 124 := X
  refine z_sub [0] (lv' := [(0, .ref (ad 45))]) rfl ?_
  refine z_aload_n X 0 dX11_told_0 rfl ?_
  refine clc_X11_9 X K rfl h (Nat.le_of_ble_eq_true rfl) dX11_told_1 ⟨Nat.zero_le _, Nat.zero_le _⟩ (fun r2 σ1 h => ?_)
  refine z_istore_nK X K (lv' := [(1, .int (iz r2)), (0, .ref (ad 45))]) dX11_told_4 rfl rfl ?_
  refine z_iload_n X 0 dX11_told_5 rfl ?_
  refine z_aload_n X 1 dX11_told_6 rfl ?_
  refine gC_X11_15_X4 X K (Or.inl rfl) dX11_told_7 ?_
  refine clc_X11_19 X K rfl h (Nat.le_of_ble_eq_true rfl) dX11_told_10 ⟨Nat.zero_le _, Nat.zero_le _⟩ (fun r4 σ3 h => ?_)
  refine z_isub X dX11_told_13 ?_
  refine z_sipush X 255 dX11_told_14 rfl ?_
  refine z_iandm X 8 (M := 256) rfl rfl rfl dX11_told_17 ?_
  exact hR _ _ _ _ _ _ _ dX11_told_18 rfl (Nat.le_refl 0) (Nat.le_refl 0) h
/- X11_told -/
theorem clx_X11_9 {Γ : ZG} {cc : ByteArray} {fr lo nL mc0 ms0 k n pc : Nat} {xs : va_W} {lv : List (Nat × Value)} {st : List Value} {l : Launch} {D : va_G} {ds : Nat → ClassId} {ad : Nat → Nat} {σ : ZS} {post : ZS → Prop} (X : ZX Γ cc RX11 fr lo) (K : ZCap Γ l (ΘC D ds ad) nL mc0 ms0) (hrm : zroom 6 124 fr lo = true) (h : wx_X4_next σ post) (hst : (st.map fun v => v.category).sum ≤ 8) (d : decode cc pc = .ok (.invokevirtual 9, 3)) (hcs : k + 1 ≤ mc0 ∧ n + 6 ≤ ms0) (kk : ∀ (σ' : ZS) (q : Nat), post σ' → ZThrow Γ (k + 1) (n + 6) σ' xs pc lv st q) : Z Γ k n σ xs pc lv (.ref (ad 45) :: st) := 
  z_callVX' (C := RX4) (q0 := 45) X K (mtx_X4_next l D ds ad  σ post h) (Nat.le_of_ble_eq_true rfl) rfl rfl rfl (lw_V q1037 q992 q993 q111 q994) ⟨rfl, by decide, by decide, rfl⟩ (zroom_of (zroom_le hrm (by decide))) ⟨by rw [K.2.2.2.1]; exact hcs.1, by rw [K.2.2.2.2]; exact hcs.2⟩ hst d rfl kk
set_option maxRecDepth 100000 in
theorem mtx_X11_told (l : Launch) (D : va_G) (ds : Nat → ClassId) (ad : Nat → Nat) (σ : ZS) (post : ZS → Prop) (h : wx_X11_told  σ post) : ZMetX l (ΘC D ds ad) yX11_told cX11_told 2 (some .int) 6 124 [.ref (ad 45)] σ post := by
  refine ZMetX.of (by decide) (Nat.le_of_ble_eq_true rfl) (fun Γ X K hR => ?_)
  have X : ZX Γ cX11_told RX11 6 124 := X
  refine z_sub [0] (lv' := [(0, .ref (ad 45))]) rfl ?_
  refine z_aload_n X 0 dX11_told_0 rfl ?_
  rcases h with h | h
  · refine clc_X11_9 X K rfl h (Nat.le_of_ble_eq_true rfl) dX11_told_1 ⟨Nat.zero_le _, Nat.zero_le _⟩ (fun r2 σ1 h => ?_)
    refine z_istore_nK X K (lv' := [(1, .int (iz r2)), (0, .ref (ad 45))]) dX11_told_4 rfl rfl ?_
    refine z_iload_n X 0 dX11_told_5 rfl ?_
    refine z_aload_n X 1 dX11_told_6 rfl ?_
    refine gC_X11_15_X4 X K (Or.inl rfl) dX11_told_7 ?_
    refine clc_X11_19 X K rfl h (Nat.le_of_ble_eq_true rfl) dX11_told_10 ⟨Nat.zero_le _, Nat.zero_le _⟩ (fun r4 σ3 h => ?_)
    refine z_isub X dX11_told_13 ?_
    refine z_sipush X 255 dX11_told_14 rfl ?_
    refine z_iandm X 8 (M := 256) rfl rfl rfl dX11_told_17 ?_
    exact h.elim
  · exact clx_X11_9 X K rfl h (Nat.le_of_ble_eq_true rfl) dX11_told_1 ⟨Nat.le_refl 1, Nat.le_refl 6⟩ (fun _ q h => hR _ _ _ _ _ _ _ q (Nat.le_refl 1) (Nat.le_refl 6) h)
/- X11_read -/
theorem clc_X11_25 {Γ : ZG} {cc : ByteArray} {fr lo nL mc0 ms0 k n pc : Nat} {xs : va_W} {lv : List (Nat × Value)} {st : List Value} {l : Launch} {D : va_G} {ds : Nat → ClassId} {ad : Nat → Nat} {σ : ZS} {post : Int → ZS → Prop} (X : ZX Γ cc RX11 fr lo) (K : ZCap Γ l (ΘC D ds ad) nL mc0 ms0) (hrm : zroom 7 145 fr lo = true) (h : wc_X11_told σ post) (hst : (st.map fun v => v.category).sum ≤ 8) (d : decode cc pc = .ok (.invokestatic 25, 3)) (hcs : k ≤ mc0 ∧ n ≤ ms0) (kk : ∀ (r : Int) (σ' : ZS), post r σ' → Z Γ k n σ' xs (pc + 3) lv (.int (iz r) :: st)) : Z Γ k n σ xs pc lv (.ref (ad 45) :: st) := 
  z_callSI' X K (mtc_X11_told l D ds ad  σ post h) (lw_S q1034 q1035 q125 q1036) ⟨by decide, by decide, rfl⟩ (zroom_of (zroom_le hrm (by decide))) ⟨by rw [K.2.2.2.1]; exact hcs.1, by rw [K.2.2.2.2]; exact hcs.2⟩ hst d rfl kk
theorem clc_X11_32 {Γ : ZG} {cc : ByteArray} {fr lo nL mc0 ms0 k n pc : Nat} {xs : va_W} {lv : List (Nat × Value)} {st : List Value} {l : Launch} {D : va_G} {ds : Nat → ClassId} {ad : Nat → Nat} {a0 : Int} {σ : ZS} {post : ZS → Prop} (X : ZX Γ cc RX11 fr lo) (K : ZCap Γ l (ΘC D ds ad) nL mc0 ms0) (hrm : zroom 3 45 fr lo = true) (h : wc_X4_tell a0 σ post) (hst : (st.map fun v => v.category).sum ≤ 8) (d : decode cc pc = .ok (.invokevirtual 32, 3)) (hcs : k ≤ mc0 ∧ n ≤ ms0) (kk : ∀ (σ' : ZS), post σ' → Z Γ k n σ' xs (pc + 3) lv (st)) : Z Γ k n σ xs pc lv (.int (iz a0) :: .ref (ad 45) :: st) := 
  z_callVV' (C := RX4) (q0 := 45) X K (mtc_X4_tell l D ds ad a0 σ post h) (Nat.le_of_ble_eq_true rfl) rfl rfl rfl (lw_V q1042 q1019 q1020 q111 q1021) ⟨rfl, by decide, by decide, rfl⟩ (zroom_of (zroom_le hrm (by decide))) ⟨by rw [K.2.2.2.1]; exact hcs.1, by rw [K.2.2.2.2]; exact hcs.2⟩ hst d rfl kk
theorem clc_X11_29 {Γ : ZG} {cc : ByteArray} {fr lo nL mc0 ms0 k n pc : Nat} {xs : va_W} {lv : List (Nat × Value)} {st : List Value} {l : Launch} {D : va_G} {ds : Nat → ClassId} {ad : Nat → Nat} {σ : ZS} {post : Int → ZS → Prop} (X : ZX Γ cc RX11 fr lo) (K : ZCap Γ l (ΘC D ds ad) nL mc0 ms0) (hrm : zroom 3 44 fr lo = true) (h : wc_X4_left σ post) (hst : (st.map fun v => v.category).sum ≤ 8) (d : decode cc pc = .ok (.invokevirtual 29, 3)) (hcs : k ≤ mc0 ∧ n ≤ ms0) (kk : ∀ (r : Int) (σ' : ZS), post r σ' → Z Γ k n σ' xs (pc + 3) lv (.int (iz r) :: st)) : Z Γ k n σ xs pc lv (.ref (ad 45) :: st) := 
  z_callVI' (C := RX4) (q0 := 45) X K (mtc_X4_left l D ds ad  σ post h) (Nat.le_of_ble_eq_true rfl) rfl rfl rfl (lw_V q1038 q1039 q1040 q111 q1041) ⟨rfl, by decide, by decide, rfl⟩ (zroom_of (zroom_le hrm (by decide))) ⟨by rw [K.2.2.2.1]; exact hcs.1, by rw [K.2.2.2.2]; exact hcs.2⟩ hst d rfl kk
set_option maxRecDepth 100000 in
theorem wkc_X11_read_45 {Γ : ZG} {l : Launch} {D : va_G} {ds : Nat → ClassId} {ad : Nat → Nat} {post : ZS → Prop} (X : ZX Γ cX11_read RX11 7 145) (K : ZCap Γ l (ΘC D ds ad) 5 0 0) (hR : ZRetV Γ cX11_read 0 0 post) : ∀ (N : Nat) (v3 : Int) (v4 : Int) (σ : ZS), zfix (wbc_X11_read_45 post) N (v3, v4, σ) → Z Γ 0 0 σ [] 45 [(1, .ref (ad 45)), (3, .int (iz v3)), (4, .int (iz v4))] [] := by
  intro N
  induction N with
  | zero => intro v3 v4 σ h; exact False.elim h
  | succ N ih =>
    intro v3 v4 σ h
    have h : wbc_X11_read_45 post (zfix (wbc_X11_read_45 post) N) (v3, v4, σ) := h
    have hC45 := ih
    clear ih
    generalize zfix (wbc_X11_read_45 post) N = C45 at h hC45
    dsimp only [wbc_X11_read_45] at h
    refine z_iload X 2 dX11_read_45 rfl ?_
    refine z_iload_n X 1 dX11_read_47 rfl ?_
    obtain ⟨i1, h⟩ := h
    obtain ⟨i2, h⟩ := h
    refine z_icmp_ge X 65 dX11_read_48 rfl i1 i2 (fun c3 => ?_) (fun c3 => ?_)
    · have h := h.1 c3
      exact hR _ _ _ _ _ _ dX11_read_65 (Nat.le_refl 0) (Nat.le_refl 0) h
    · have h := h.2 c3
      refine z_aload_n X 0 dX11_read_51 rfl ?_
      refine z_aload_n X 0 dX11_read_52 rfl ?_
      refine clc_X11_25 X K rfl h (Nat.le_of_ble_eq_true rfl) dX11_read_53 ⟨Nat.zero_le _, Nat.zero_le _⟩ (fun r5 σ4 h => ?_)
      refine clc_X11_32 X K rfl h (Nat.le_of_ble_eq_true rfl) dX11_read_56 ⟨Nat.zero_le _, Nat.zero_le _⟩ (fun σ6 h => ?_)
      refine z_iincK X K 2 (lv' := [(4, .int (iz (v4 + 1))), (1, .ref (ad 45)), (3, .int (iz v3))]) dX11_read_59 rfl rfl rfl ?_
      refine z_goto (tgt := 45) X dX11_read_62 rfl ?_
      exact z_sub [1, 2, 0] rfl (hC45 _ _ _ h)
set_option maxRecDepth 100000 in
theorem wkc_X11_read_41 {Γ : ZG} {l : Launch} {D : va_G} {ds : Nat → ClassId} {ad : Nat → Nat} {post : ZS → Prop} (X : ZX Γ cX11_read RX11 7 145) (K : ZCap Γ l (ΘC D ds ad) 5 0 0) (hR : ZRetV Γ cX11_read 0 0 post) (t0 : Int) (σ : ZS) (h : wc_X11_read_41 post t0 σ) : Z Γ 0 0 σ [] 41 [(1, .ref (ad 45))] [.int (iz t0)] := by
  refine z_istore_nK X K (lv' := [(3, .int (iz t0)), (1, .ref (ad 45))]) dX11_read_41 rfl rfl ?_
  refine z_iconst X 0 dX11_read_42 ?_
  refine z_istoreK X K (lv' := [(4, .int (iz 0)), (3, .int (iz t0)), (1, .ref (ad 45))]) dX11_read_43 rfl rfl ?_
  obtain ⟨N, h⟩ := h
  exact z_sub [2, 1, 0] rfl (wkc_X11_read_45 X K hR N _ _ _ h)
set_option maxRecDepth 100000 in
theorem mtc_X11_read (l : Launch) (D : va_G) (ds : Nat → ClassId) (ad : Nat → Nat) (σ : ZS) (post : ZS → Prop) (h : wc_X11_read  σ post) : ZMetV l (ΘC D ds ad) yX11_read cX11_read 5 7 145 0 0 [.ref (ad 64), .ref (ad 45)] σ post := by
  refine ZMetV.of (by decide) (Nat.le_of_ble_eq_true rfl) (fun Γ X K hR => ?_)
  have X : ZX Γ cX11_read RX11 7 145 := X
  refine z_sub [0, 1] (lv' := [(0, .ref (ad 64)), (1, .ref (ad 45))]) rfl ?_
  refine z_aload_n X 1 dX11_read_0 rfl ?_
  refine clc_X11_25 X K rfl h (Nat.le_of_ble_eq_true rfl) dX11_read_1 ⟨Nat.zero_le _, Nat.zero_le _⟩ (fun r2 σ1 h => ?_)
  refine z_istore_nK X K (lv' := [(2, .int (iz r2)), (0, .ref (ad 64)), (1, .ref (ad 45))]) dX11_read_4 rfl rfl ?_
  refine z_iload_n X 0 dX11_read_5 rfl ?_
  obtain ⟨i3, h⟩ := h
  refine z_if_ne X 16 dX11_read_6 rfl i3 (fun c4 => ?_) (fun c4 => ?_)
  · have h := h.1 c4
    refine z_iload_n X 0 dX11_read_16 rfl ?_
    refine z_sipush X 249 dX11_read_17 rfl ?_
    refine z_icmp_gt X 27 dX11_read_20 rfl i3 (by decide) (fun c5 => ?_) (fun c5 => ?_)
    · have h := h.1 c5
      refine z_sipush X 250 dX11_read_27 rfl ?_
      refine z_iload_n X 0 dX11_read_30 rfl ?_
      refine z_sipush X 249 dX11_read_31 rfl ?_
      refine z_isub X dX11_read_34 ?_
      refine z_imul X dX11_read_35 ?_
      refine z_aload_n X 2 dX11_read_36 rfl ?_
      refine clc_X11_25 X K rfl h (Nat.le_of_ble_eq_true rfl) dX11_read_37 ⟨Nat.zero_le _, Nat.zero_le _⟩ (fun r7 σ6 h => ?_)
      refine z_iadd X dX11_read_40 ?_
      exact z_sub [2] rfl (wkc_X11_read_41 X K hR _ _ h)
    · have h := h.2 c5
      refine z_iload_n X 0 dX11_read_23 rfl ?_
      refine z_goto (tgt := 41) X dX11_read_24 rfl ?_
      exact z_sub [2] rfl (wkc_X11_read_41 X K hR _ _ h)
  · have h := h.2 c4
    refine z_aload_n X 2 dX11_read_9 rfl ?_
    refine clc_X11_29 X K rfl h (Nat.le_of_ble_eq_true rfl) dX11_read_10 ⟨Nat.zero_le _, Nat.zero_le _⟩ (fun r9 σ8 h => ?_)
    refine z_goto (tgt := 41) X dX11_read_13 rfl ?_
    exact z_sub [2] rfl (wkc_X11_read_41 X K hR _ _ h)
/- X11_read -/
theorem clx_X11_25 {Γ : ZG} {cc : ByteArray} {fr lo nL mc0 ms0 k n pc : Nat} {xs : va_W} {lv : List (Nat × Value)} {st : List Value} {l : Launch} {D : va_G} {ds : Nat → ClassId} {ad : Nat → Nat} {σ : ZS} {post : ZS → Prop} (X : ZX Γ cc RX11 fr lo) (K : ZCap Γ l (ΘC D ds ad) nL mc0 ms0) (hrm : zroom 7 145 fr lo = true) (h : wx_X11_told σ post) (hst : (st.map fun v => v.category).sum ≤ 8) (d : decode cc pc = .ok (.invokestatic 25, 3)) (hcs : k + 1 ≤ mc0 ∧ n + 6 ≤ ms0) (kk : ∀ (σ' : ZS) (q : Nat), post σ' → ZThrow Γ (k + 1) (n + 6) σ' xs pc lv st q) : Z Γ k n σ xs pc lv (.ref (ad 45) :: st) := 
  z_callSX' X K (mtx_X11_told l D ds ad  σ post h) (lw_S q1034 q1035 q125 q1036) ⟨by decide, by decide, rfl⟩ (zroom_of (zroom_le hrm (by decide))) ⟨by rw [K.2.2.2.1]; exact hcs.1, by rw [K.2.2.2.2]; exact hcs.2⟩ hst d rfl kk
set_option maxRecDepth 100000 in
theorem wkx_X11_read_45 {Γ : ZG} {l : Launch} {D : va_G} {ds : Nat → ClassId} {ad : Nat → Nat} {post : ZS → Prop} (X : ZX Γ cX11_read RX11 7 145) (K : ZCap Γ l (ΘC D ds ad) 5 1 6) (hR : ZOut Γ post) : ∀ (N : Nat) (v3 : Int) (v4 : Int) (σ : ZS), zfix (wbx_X11_read_45 post) N (v3, v4, σ) → Z Γ 0 0 σ [] 45 [(1, .ref (ad 45)), (3, .int (iz v3)), (4, .int (iz v4))] [] := by
  intro N
  induction N with
  | zero => intro v3 v4 σ h; exact False.elim h
  | succ N ih =>
    intro v3 v4 σ h
    have h : wbx_X11_read_45 post (zfix (wbx_X11_read_45 post) N) (v3, v4, σ) := h
    have hC45 := ih
    clear ih
    generalize zfix (wbx_X11_read_45 post) N = C45 at h hC45
    dsimp only [wbx_X11_read_45] at h
    refine z_iload X 2 dX11_read_45 rfl ?_
    refine z_iload_n X 1 dX11_read_47 rfl ?_
    obtain ⟨i1, h⟩ := h
    obtain ⟨i2, h⟩ := h
    refine z_icmp_ge X 65 dX11_read_48 rfl i1 i2 (fun c3 => ?_) (fun c3 => ?_)
    · have h := h.1 c3
      exact h.elim
    · have h := h.2 c3
      refine z_aload_n X 0 dX11_read_51 rfl ?_
      refine z_aload_n X 0 dX11_read_52 rfl ?_
      rcases h with h | h
      · refine clc_X11_25 X K rfl h (Nat.le_of_ble_eq_true rfl) dX11_read_53 ⟨Nat.zero_le _, Nat.zero_le _⟩ (fun r5 σ4 h => ?_)
        refine clc_X11_32 X K rfl h (Nat.le_of_ble_eq_true rfl) dX11_read_56 ⟨Nat.zero_le _, Nat.zero_le _⟩ (fun σ6 h => ?_)
        refine z_iincK X K 2 (lv' := [(4, .int (iz (v4 + 1))), (1, .ref (ad 45)), (3, .int (iz v3))]) dX11_read_59 rfl rfl rfl ?_
        refine z_goto (tgt := 45) X dX11_read_62 rfl ?_
        exact z_sub [1, 2, 0] rfl (hC45 _ _ _ h)
      · exact clx_X11_25 X K rfl h (Nat.le_of_ble_eq_true rfl) dX11_read_53 ⟨Nat.le_refl 1, Nat.le_refl 6⟩ (fun _ q h => hR _ _ _ _ _ _ _ q (Nat.le_refl 1) (Nat.le_refl 6) h)
set_option maxRecDepth 100000 in
theorem wkx_X11_read_41 {Γ : ZG} {l : Launch} {D : va_G} {ds : Nat → ClassId} {ad : Nat → Nat} {post : ZS → Prop} (X : ZX Γ cX11_read RX11 7 145) (K : ZCap Γ l (ΘC D ds ad) 5 1 6) (hR : ZOut Γ post) (t0 : Int) (σ : ZS) (h : wx_X11_read_41 post t0 σ) : Z Γ 0 0 σ [] 41 [(1, .ref (ad 45))] [.int (iz t0)] := by
  refine z_istore_nK X K (lv' := [(3, .int (iz t0)), (1, .ref (ad 45))]) dX11_read_41 rfl rfl ?_
  refine z_iconst X 0 dX11_read_42 ?_
  refine z_istoreK X K (lv' := [(4, .int (iz 0)), (3, .int (iz t0)), (1, .ref (ad 45))]) dX11_read_43 rfl rfl ?_
  obtain ⟨N, h⟩ := h
  exact z_sub [2, 1, 0] rfl (wkx_X11_read_45 X K hR N _ _ _ h)
set_option maxRecDepth 100000 in
theorem mtx_X11_read (l : Launch) (D : va_G) (ds : Nat → ClassId) (ad : Nat → Nat) (σ : ZS) (post : ZS → Prop) (h : wx_X11_read  σ post) : ZMetX l (ΘC D ds ad) yX11_read cX11_read 5 none 7 145 [.ref (ad 64), .ref (ad 45)] σ post := by
  refine ZMetX.of (by decide) (Nat.le_of_ble_eq_true rfl) (fun Γ X K hR => ?_)
  have X : ZX Γ cX11_read RX11 7 145 := X
  refine z_sub [0, 1] (lv' := [(0, .ref (ad 64)), (1, .ref (ad 45))]) rfl ?_
  refine z_aload_n X 1 dX11_read_0 rfl ?_
  rcases h with h | h
  · refine clc_X11_25 X K rfl h (Nat.le_of_ble_eq_true rfl) dX11_read_1 ⟨Nat.zero_le _, Nat.zero_le _⟩ (fun r2 σ1 h => ?_)
    refine z_istore_nK X K (lv' := [(2, .int (iz r2)), (0, .ref (ad 64)), (1, .ref (ad 45))]) dX11_read_4 rfl rfl ?_
    refine z_iload_n X 0 dX11_read_5 rfl ?_
    obtain ⟨i3, h⟩ := h
    refine z_if_ne X 16 dX11_read_6 rfl i3 (fun c4 => ?_) (fun c4 => ?_)
    · have h := h.1 c4
      refine z_iload_n X 0 dX11_read_16 rfl ?_
      refine z_sipush X 249 dX11_read_17 rfl ?_
      refine z_icmp_gt X 27 dX11_read_20 rfl i3 (by decide) (fun c5 => ?_) (fun c5 => ?_)
      · have h := h.1 c5
        refine z_sipush X 250 dX11_read_27 rfl ?_
        refine z_iload_n X 0 dX11_read_30 rfl ?_
        refine z_sipush X 249 dX11_read_31 rfl ?_
        refine z_isub X dX11_read_34 ?_
        refine z_imul X dX11_read_35 ?_
        refine z_aload_n X 2 dX11_read_36 rfl ?_
        rcases h with h | h
        · refine clc_X11_25 X K rfl h (Nat.le_of_ble_eq_true rfl) dX11_read_37 ⟨Nat.zero_le _, Nat.zero_le _⟩ (fun r7 σ6 h => ?_)
          refine z_iadd X dX11_read_40 ?_
          exact z_sub [2] rfl (wkx_X11_read_41 X K hR _ _ h)
        · exact clx_X11_25 X K rfl h (Nat.le_of_ble_eq_true rfl) dX11_read_37 ⟨Nat.le_refl 1, Nat.le_refl 6⟩ (fun _ q h => hR _ _ _ _ _ _ _ q (Nat.le_refl 1) (Nat.le_refl 6) h)
      · have h := h.2 c5
        refine z_iload_n X 0 dX11_read_23 rfl ?_
        refine z_goto (tgt := 41) X dX11_read_24 rfl ?_
        exact z_sub [2] rfl (wkx_X11_read_41 X K hR _ _ h)
    · have h := h.2 c4
      refine z_aload_n X 2 dX11_read_9 rfl ?_
      refine clc_X11_29 X K rfl h (Nat.le_of_ble_eq_true rfl) dX11_read_10 ⟨Nat.zero_le _, Nat.zero_le _⟩ (fun r9 σ8 h => ?_)
      refine z_goto (tgt := 41) X dX11_read_13 rfl ?_
      exact z_sub [2] rfl (wkx_X11_read_41 X K hR _ _ h)
  · exact clx_X11_25 X K rfl h (Nat.le_of_ble_eq_true rfl) dX11_read_1 ⟨Nat.le_refl 1, Nat.le_refl 6⟩ (fun _ q h => hR _ _ _ _ _ _ _ q (Nat.le_refl 1) (Nat.le_refl 6) h)
/- X4_latched -/
set_option maxRecDepth 100000 in
theorem wkc_X4_latched_2 {Γ : ZG} {l : Launch} {D : va_G} {ds : Nat → ClassId} {ad : Nat → Nat} {post : Nat → ZS → Prop} (X : ZX Γ cX4_latched RX4 5 104) (K : ZCap Γ l (ΘC D ds ad) 3 0 0) (hR : ZRetR Γ cX4_latched 0 0 post) : ∀ (N : Nat) (v1 : Int) (v2 : Int) (σ : ZS), zfix (wbc_X4_latched_2 post) N (v1, v2, σ) → Z Γ 0 0 σ [] 2 [(0, .ref (ad 51)), (1, .int (iz v1)), (2, .int (iz v2))] [] := by
  intro N
  induction N with
  | zero => intro v1 v2 σ h; exact False.elim h
  | succ N ih =>
    intro v1 v2 σ h
    have h : wbc_X4_latched_2 post (zfix (wbc_X4_latched_2 post) N) (v1, v2, σ) := h
    have hC2 := ih
    clear ih
    generalize zfix (wbc_X4_latched_2 post) N = C2 at h hC2
    dsimp only [wbc_X4_latched_2] at h
    refine z_iload_n X 2 dX4_latched_2 rfl ?_
    refine z_aload_n X 0 dX4_latched_3 rfl ?_
    refine z_enSize q1025 X K rfl (Nat.le_of_ble_eq_true rfl) dX4_latched_4 ⟨Nat.zero_le _, Nat.zero_le _⟩ ?_
    obtain ⟨i1, h⟩ := h
    obtain ⟨i2, h⟩ := h
    refine z_icmp_ge X 40 dX4_latched_7 rfl i1 i2 (fun c3 => ?_) (fun c3 => ?_)
    · have h := h.1 c3
      exact h.elim
    · have h := h.2 c3
      refine z_aload_n X 0 dX4_latched_10 rfl ?_
      refine z_iload_n X 2 dX4_latched_11 rfl ?_
      obtain ⟨x4, h⟩ := h
      obtain ⟨g5, h⟩ := h
      refine z_enGet q1026 X K rfl x4 ⟨i2, g5⟩ (Nat.le_of_ble_eq_true rfl) dX4_latched_12 ⟨Nat.zero_le _, Nat.zero_le _⟩ ?_
      refine z_enCast q1027 X K (isEn_c v2) dX4_latched_15 ?_
      refine gC_X4_65_En X K (isEn_c v2) dX4_latched_18 ?_
      refine z_iload_n X 1 dX4_latched_21 rfl ?_
      obtain ⟨i6, h⟩ := h
      obtain ⟨i7, h⟩ := h
      refine z_icmp_ne X 34 dX4_latched_22 rfl i6 i7 (fun c8 => ?_) (fun c8 => ?_)
      · have h := h.1 c8
        refine z_iincK X K 2 (lv' := [(2, .int (iz (v2 + 1))), (0, .ref (ad 51)), (1, .int (iz v1))]) dX4_latched_34 rfl rfl rfl ?_
        refine z_goto (tgt := 2) X dX4_latched_37 rfl ?_
        exact z_sub [1, 2, 0] rfl (hC2 _ _ _ h)
      · have h := h.2 c8
        refine z_aload_n X 0 dX4_latched_25 rfl ?_
        refine z_iload_n X 2 dX4_latched_26 rfl ?_
        obtain ⟨g9, h⟩ := h
        refine z_enGet q1026 X K rfl x4 ⟨i2, g9⟩ (Nat.le_of_ble_eq_true rfl) dX4_latched_27 ⟨Nat.zero_le _, Nat.zero_le _⟩ ?_
        refine z_enCast q1027 X K (isEn_c v2) dX4_latched_30 ?_
        have e : zt_ad (zg_T Γ) = ad := by rw [K.2.1]; rfl
        rw [← e]
        exact hR _ _ _ _ _ _ _ dX4_latched_33 (Nat.le_refl 0) (Nat.le_refl 0) h
set_option maxRecDepth 100000 in
theorem mtc_X4_latched (l : Launch) (D : va_G) (ds : Nat → ClassId) (ad : Nat → Nat) (a1 : Int) (σ : ZS) (post : Nat → ZS → Prop) (h : wc_X4_latched a1 σ post) : ZMetR l (ΘC D ds ad) yX4_latched cX4_latched 3 (.object "MatrixPress$Encodation") 5 104 0 0 [.ref (ad 51), .int (iz a1)] σ post := by
  refine ZMetR.of (by decide) (Nat.le_of_ble_eq_true rfl) (fun Γ X K hR => ?_)
  have X : ZX Γ cX4_latched RX4 5 104 := X
  refine z_sub [0, 1] (lv' := [(0, .ref (ad 51)), (1, .int (iz a1))]) rfl ?_
  refine z_iconst X 0 dX4_latched_0 ?_
  refine z_istore_nK X K (lv' := [(2, .int (iz 0)), (0, .ref (ad 51)), (1, .int (iz a1))]) dX4_latched_1 rfl rfl ?_
  obtain ⟨N, h⟩ := h
  exact z_sub [1, 2, 0] rfl (wkc_X4_latched_2 X K hR N _ _ _ h)
/- X4_latched -/
set_option maxRecDepth 100000 in
theorem wkx_X4_latched_2 {Γ : ZG} {l : Launch} {D : va_G} {ds : Nat → ClassId} {ad : Nat → Nat} {post : ZS → Prop} (X : ZX Γ cX4_latched RX4 5 104) (K : ZCap Γ l (ΘC D ds ad) 3 1 6) (hR : ZOut Γ post) : ∀ (N : Nat) (v1 : Int) (v2 : Int) (σ : ZS), zfix (wbx_X4_latched_2 post) N (v1, v2, σ) → Z Γ 0 0 σ [] 2 [(0, .ref (ad 51)), (1, .int (iz v1)), (2, .int (iz v2))] [] := by
  intro N
  induction N with
  | zero => intro v1 v2 σ h; exact False.elim h
  | succ N ih =>
    intro v1 v2 σ h
    have h : wbx_X4_latched_2 post (zfix (wbx_X4_latched_2 post) N) (v1, v2, σ) := h
    have hC2 := ih
    clear ih
    generalize zfix (wbx_X4_latched_2 post) N = C2 at h hC2
    dsimp only [wbx_X4_latched_2] at h
    refine z_iload_n X 2 dX4_latched_2 rfl ?_
    refine z_aload_n X 0 dX4_latched_3 rfl ?_
    refine z_enSize q1025 X K rfl (Nat.le_of_ble_eq_true rfl) dX4_latched_4 ⟨Nat.zero_le _, Nat.zero_le _⟩ ?_
    obtain ⟨i1, h⟩ := h
    obtain ⟨i2, h⟩ := h
    refine z_icmp_ge X 40 dX4_latched_7 rfl i1 i2 (fun c3 => ?_) (fun c3 => ?_)
    · have h := h.1 c3
      exact z_throwNS q995 q1004 X K rfl dX4_latched_40 dX4_latched_43 dX4_latched_44 dX4_latched_47 (Nat.le_of_ble_eq_true rfl) ⟨Nat.le_refl 1, Nat.le_refl 6⟩ (fun q => hR _ _ _ _ _ _ _ q (Nat.le_refl 1) (Nat.le_refl 6) h)
    · have h := h.2 c3
      refine z_aload_n X 0 dX4_latched_10 rfl ?_
      refine z_iload_n X 2 dX4_latched_11 rfl ?_
      obtain ⟨x4, h⟩ := h
      obtain ⟨g5, h⟩ := h
      refine z_enGet q1026 X K rfl x4 ⟨i2, g5⟩ (Nat.le_of_ble_eq_true rfl) dX4_latched_12 ⟨Nat.zero_le _, Nat.zero_le _⟩ ?_
      refine z_enCast q1027 X K (isEn_c v2) dX4_latched_15 ?_
      refine gC_X4_65_En X K (isEn_c v2) dX4_latched_18 ?_
      refine z_iload_n X 1 dX4_latched_21 rfl ?_
      obtain ⟨i6, h⟩ := h
      obtain ⟨i7, h⟩ := h
      refine z_icmp_ne X 34 dX4_latched_22 rfl i6 i7 (fun c8 => ?_) (fun c8 => ?_)
      · have h := h.1 c8
        refine z_iincK X K 2 (lv' := [(2, .int (iz (v2 + 1))), (0, .ref (ad 51)), (1, .int (iz v1))]) dX4_latched_34 rfl rfl rfl ?_
        refine z_goto (tgt := 2) X dX4_latched_37 rfl ?_
        exact z_sub [1, 2, 0] rfl (hC2 _ _ _ h)
      · have h := h.2 c8
        refine z_aload_n X 0 dX4_latched_25 rfl ?_
        refine z_iload_n X 2 dX4_latched_26 rfl ?_
        obtain ⟨g9, h⟩ := h
        refine z_enGet q1026 X K rfl x4 ⟨i2, g9⟩ (Nat.le_of_ble_eq_true rfl) dX4_latched_27 ⟨Nat.zero_le _, Nat.zero_le _⟩ ?_
        refine z_enCast q1027 X K (isEn_c v2) dX4_latched_30 ?_
        exact h.elim
set_option maxRecDepth 100000 in
theorem mtx_X4_latched (l : Launch) (D : va_G) (ds : Nat → ClassId) (ad : Nat → Nat) (a1 : Int) (σ : ZS) (post : ZS → Prop) (h : wx_X4_latched a1 σ post) : ZMetX l (ΘC D ds ad) yX4_latched cX4_latched 3 (some (.object "MatrixPress$Encodation")) 5 104 [.ref (ad 51), .int (iz a1)] σ post := by
  refine ZMetX.of (by decide) (Nat.le_of_ble_eq_true rfl) (fun Γ X K hR => ?_)
  have X : ZX Γ cX4_latched RX4 5 104 := X
  refine z_sub [0, 1] (lv' := [(0, .ref (ad 51)), (1, .int (iz a1))]) rfl ?_
  refine z_iconst X 0 dX4_latched_0 ?_
  refine z_istore_nK X K (lv' := [(2, .int (iz 0)), (0, .ref (ad 51)), (1, .int (iz a1))]) dX4_latched_1 rfl rfl ?_
  obtain ⟨N, h⟩ := h
  exact z_sub [1, 2, 0] rfl (wkx_X4_latched_2 X K hR N _ _ _ h)
/- X4_read -/
theorem clc_X4_47 {Γ : ZG} {cc : ByteArray} {fr lo nL mc0 ms0 k n pc : Nat} {xs : va_W} {lv : List (Nat × Value)} {st : List Value} {l : Launch} {D : va_G} {ds : Nat → ClassId} {ad : Nat → Nat} {a1 : Int} {σ : ZS} {post : Nat → ZS → Prop} (X : ZX Γ cc RX4 fr lo) (K : ZCap Γ l (ΘC D ds ad) nL mc0 ms0) (hrm : zroom 6 126 fr lo = true) (h : wc_X4_latched a1 σ post) (hst : (st.map fun v => v.category).sum ≤ 8) (d : decode cc pc = .ok (.invokestatic 47, 3)) (hcs : k ≤ mc0 ∧ n ≤ ms0) (kk : ∀ (r : Nat) (σ' : ZS), post r σ' → Z Γ k n σ' xs (pc + 3) lv (.ref (ad r) :: st)) : Z Γ k n σ xs pc lv (.int (iz a1) :: .ref (ad 51) :: st) := 
  z_callSR' X K (mtc_X4_latched l D ds ad a1 σ post h) (lw_S q1022 q1023 q111 q1024) ⟨by decide, by decide, rfl⟩ (zroom_of (zroom_le hrm (by decide))) ⟨by rw [K.2.2.2.1]; exact hcs.1, by rw [K.2.2.2.2]; exact hcs.2⟩ hst d rfl kk
theorem clc_X4_51_En {Γ : ZG} {cc : ByteArray} {fr lo nL mc0 ms0 k n pc : Nat} {xs : va_W} {lv : List (Nat × Value)} {st : List Value} {l : Launch} {D : va_G} {ds : Nat → ClassId} {ad : Nat → Nat} {σ : ZS} {post : ZS → Prop} (X : ZX Γ cc RX4 fr lo) (K : ZCap Γ l (ΘC D ds ad) nL mc0 ms0) {o : Nat} (ho : isEn o) (hrm : zroom 8 173 fr lo = true) (h : wv_En_read o σ post) (hst : (st.map fun v => v.category).sum ≤ 8) (d : decode cc pc = .ok (.invokevirtual 51, 3)) (hcs : k ≤ mc0 ∧ n ≤ ms0) (kk : ∀ (σ' : ZS), post σ' → Z Γ k n σ' xs (pc + 3) lv (st)) : Z Γ k n σ xs pc lv (.ref (ad 45) :: .ref (ad o) :: st) := by
  rcases ho with rfl | rfl | rfl | rfl | rfl
  · exact z_callUV' (C := RX8) (owner := "MatrixPress$Encodation") (q0 := 53) X K (mtc_X7_read l D ds ad 53 σ post (h.1 (Or.inl rfl))) (Nat.le_of_ble_eq_true rfl) rfl rfl rfl (lw_U q1028 q1030 q1055 q1056 q117 q1057) (va_Decl.abs (X.nw q1029 rfl)) ⟨by decide, by decide, rfl⟩ (zroom_of (zroom_le hrm (by decide))) ⟨by rw [K.2.2.2.1]; exact hcs.1, by rw [K.2.2.2.2]; exact hcs.2⟩ hst d rfl kk
  · exact z_callUV' (C := RX8) (owner := "MatrixPress$Encodation") (q0 := 56) X K (mtc_X7_read l D ds ad 56 σ post (h.1 (Or.inr rfl))) (Nat.le_of_ble_eq_true rfl) rfl rfl rfl (lw_U q1028 q1030 q1055 q1056 q117 q1057) (va_Decl.abs (X.nw q1029 rfl)) ⟨by decide, by decide, rfl⟩ (zroom_of (zroom_le hrm (by decide))) ⟨by rw [K.2.2.2.1]; exact hcs.1, by rw [K.2.2.2.2]; exact hcs.2⟩ hst d rfl kk
  · exact z_callUV' (C := RX9) (owner := "MatrixPress$Encodation") (q0 := 59) X K (mtc_X7_read l D ds ad 59 σ post (h.2.1 rfl)) (Nat.le_of_ble_eq_true rfl) rfl rfl rfl (lw_U q1028 q1030 q1102 q1056 q117 q1057) (va_Decl.abs (X.nw q1029 rfl)) ⟨by decide, by decide, rfl⟩ (zroom_of (zroom_le hrm (by decide))) ⟨by rw [K.2.2.2.1]; exact hcs.1, by rw [K.2.2.2.2]; exact hcs.2⟩ hst d rfl kk
  · exact z_callUV' (C := RX10) (owner := "MatrixPress$Encodation") (q0 := 62) X K (mtc_X10_read l D ds ad  σ post (h.2.2.1 rfl)) (Nat.le_of_ble_eq_true rfl) rfl rfl rfl (lw_U q1028 q1030 q1043 q1044 q124 q1045) (va_Decl.abs (X.nw q1029 rfl)) ⟨by decide, by decide, rfl⟩ (zroom_of (zroom_le hrm (by decide))) ⟨by rw [K.2.2.2.1]; exact hcs.1, by rw [K.2.2.2.2]; exact hcs.2⟩ hst d rfl kk
  · exact z_callUV' (C := RX11) (owner := "MatrixPress$Encodation") (q0 := 64) X K (mtc_X11_read l D ds ad  σ post (h.2.2.2 rfl)) (Nat.le_of_ble_eq_true rfl) rfl rfl rfl (lw_U q1028 q1030 q1031 q1032 q125 q1033) (va_Decl.abs (X.nw q1029 rfl)) ⟨by decide, by decide, rfl⟩ (zroom_of (zroom_le hrm (by decide))) ⟨by rw [K.2.2.2.1]; exact hcs.1, by rw [K.2.2.2.2]; exact hcs.2⟩ hst d rfl kk
theorem clc_X4_40 {Γ : ZG} {cc : ByteArray} {fr lo nL mc0 ms0 k n pc : Nat} {xs : va_W} {lv : List (Nat × Value)} {st : List Value} {l : Launch} {D : va_G} {ds : Nat → ClassId} {ad : Nat → Nat} {σ : ZS} {post : Int → ZS → Prop} (X : ZX Γ cc RX4 fr lo) (K : ZCap Γ l (ΘC D ds ad) nL mc0 ms0) (hrm : zroom 6 124 fr lo = true) (h : wc_X4_next σ post) (hst : (st.map fun v => v.category).sum ≤ 8) (d : decode cc pc = .ok (.invokevirtual 40, 3)) (hcs : k ≤ mc0 ∧ n ≤ ms0) (kk : ∀ (r : Int) (σ' : ZS), post r σ' → Z Γ k n σ' xs (pc + 3) lv (.int (iz r) :: st)) : Z Γ k n σ xs pc lv (.ref (ad 45) :: st) := 
  z_callVI' (C := RX4) (q0 := 45) X K (mtc_X4_next l D ds ad  σ post h) (Nat.le_of_ble_eq_true rfl) rfl rfl rfl (lw_V q991 q992 q993 q111 q994) ⟨rfl, by decide, by decide, rfl⟩ (zroom_of (zroom_le hrm (by decide))) ⟨by rw [K.2.2.2.1]; exact hcs.1, by rw [K.2.2.2.2]; exact hcs.2⟩ hst d rfl kk
theorem clc_X4_44 {Γ : ZG} {cc : ByteArray} {fr lo nL mc0 ms0 k n pc : Nat} {xs : va_W} {lv : List (Nat × Value)} {st : List Value} {l : Launch} {D : va_G} {ds : Nat → ClassId} {ad : Nat → Nat} {a0 : Int} {σ : ZS} {post : ZS → Prop} (X : ZX Γ cc RX4 fr lo) (K : ZCap Γ l (ΘC D ds ad) nL mc0 ms0) (hrm : zroom 3 45 fr lo = true) (h : wc_X4_tell a0 σ post) (hst : (st.map fun v => v.category).sum ≤ 8) (d : decode cc pc = .ok (.invokevirtual 44, 3)) (hcs : k ≤ mc0 ∧ n ≤ ms0) (kk : ∀ (σ' : ZS), post σ' → Z Γ k n σ' xs (pc + 3) lv (st)) : Z Γ k n σ xs pc lv (.int (iz a0) :: .ref (ad 45) :: st) := 
  z_callVV' (C := RX4) (q0 := 45) X K (mtc_X4_tell l D ds ad a0 σ post h) (Nat.le_of_ble_eq_true rfl) rfl rfl rfl (lw_V q1018 q1019 q1020 q111 q1021) ⟨rfl, by decide, by decide, rfl⟩ (zroom_of (zroom_le hrm (by decide))) ⟨by rw [K.2.2.2.1]; exact hcs.1, by rw [K.2.2.2.2]; exact hcs.2⟩ hst d rfl kk
set_option maxRecDepth 100000 in
theorem wkc_X4_read_156 {Γ : ZG} {l : Launch} {D : va_G} {ds : Nat → ClassId} {ad : Nat → Nat} {post : ZS → Prop} (X : ZX Γ cX4_read RX4 8 173) (K : ZCap Γ l (ΘC D ds ad) 4 0 0) (hR : ZRetV Γ cX4_read 0 0 post) (σ : ZS) (h : wc_X4_read_156 post σ) : Z Γ 0 0 σ [] 156 [] [] := by
  exact h.elim
set_option maxRecDepth 100000 in
theorem wkc_X4_read_132 {Γ : ZG} {l : Launch} {D : va_G} {ds : Nat → ClassId} {ad : Nat → Nat} {post : ZS → Prop} (X : ZX Γ cX4_read RX4 8 173) (K : ZCap Γ l (ΘC D ds ad) 4 0 0) (hR : ZRetV Γ cX4_read 0 0 post) {C0 : ZS → Prop} (hC0 : ∀ (σ : ZS), C0 (σ) → Z Γ 0 0 σ [] 0 [(0, .ref (ad 45)), (1, .ref (ad 51))] []) (v2 : Int) (σ : ZS) (h : wc_X4_read_132 C0 post v2 σ) : Z Γ 0 0 σ [] 132 [(0, .ref (ad 45)), (1, .ref (ad 51)), (2, .int (iz v2))] [] := by
  refine z_iload_n X 2 dX4_read_132 rfl ?_
  refine z_sipush X 235 dX4_read_133 rfl ?_
  obtain ⟨i1, h⟩ := h
  refine z_icmp_ne X 175 dX4_read_136 rfl i1 (by decide) (fun c2 => ?_) (fun c2 => ?_)
  · have h := h.1 c2
    refine z_aload_n X 1 dX4_read_175 rfl ?_
    refine z_iload_n X 2 dX4_read_176 rfl ?_
    refine clc_X4_47 X K rfl h (Nat.le_of_ble_eq_true rfl) dX4_read_177 ⟨Nat.zero_le _, Nat.zero_le _⟩ (fun r4 σ3 h => ?_)
    obtain ⟨hr4, h⟩ := h
    refine z_aload_n X 0 dX4_read_180 rfl ?_
    refine clc_X4_51_En X K hr4 rfl h (Nat.le_of_ble_eq_true rfl) dX4_read_181 ⟨Nat.zero_le _, Nat.zero_le _⟩ (fun σ5 h => ?_)
    refine z_goto (tgt := 0) X dX4_read_184 rfl ?_
    exact z_sub [0, 1] rfl (hC0 _ h)
  · have h := h.2 c2
    refine z_aload_n X 0 dX4_read_139 rfl ?_
    refine clc_X4_40 X K rfl h (Nat.le_of_ble_eq_true rfl) dX4_read_140 ⟨Nat.zero_le _, Nat.zero_le _⟩ (fun r7 σ6 h => ?_)
    refine z_istore_nK X K (lv' := [(3, .int (iz r7)), (0, .ref (ad 45)), (1, .ref (ad 51)), (2, .int (iz v2))]) dX4_read_143 rfl rfl ?_
    refine z_iload_n X 0 dX4_read_144 rfl ?_
    refine z_iconst X 1 dX4_read_145 ?_
    obtain ⟨i8, h⟩ := h
    refine z_icmp_lt X 156 dX4_read_146 rfl i8 (by decide) (fun c9 => ?_) (fun c9 => ?_)
    · have h := h.1 c9
      exact z_sub [] rfl (wkc_X4_read_156 X K hR _ h)
    · have h := h.2 c9
      refine z_iload_n X 0 dX4_read_149 rfl ?_
      refine z_sipush X 128 dX4_read_150 rfl ?_
      refine z_icmp_le X 164 dX4_read_153 rfl i8 (by decide) (fun c10 => ?_) (fun c10 => ?_)
      · have h := h.1 c10
        refine z_aload_n X 1 dX4_read_164 rfl ?_
        refine z_iload_n X 0 dX4_read_165 rfl ?_
        refine z_bipush X 127 dX4_read_166 rfl ?_
        refine z_iadd X dX4_read_168 ?_
        refine clc_X4_44 X K rfl h (Nat.le_of_ble_eq_true rfl) dX4_read_169 ⟨Nat.zero_le _, Nat.zero_le _⟩ (fun σ11 h => ?_)
        refine z_goto (tgt := 184) X dX4_read_172 rfl ?_
        refine z_goto (tgt := 0) X dX4_read_184 rfl ?_
        exact z_sub [1, 2] rfl (hC0 _ h)
      · have h := h.2 c10
        exact z_sub [] rfl (wkc_X4_read_156 X K hR _ h)
set_option maxRecDepth 100000 in
theorem wkc_X4_read_85 {Γ : ZG} {l : Launch} {D : va_G} {ds : Nat → ClassId} {ad : Nat → Nat} {post : ZS → Prop} (X : ZX Γ cX4_read RX4 8 173) (K : ZCap Γ l (ΘC D ds ad) 4 0 0) (hR : ZRetV Γ cX4_read 0 0 post) {C0 : ZS → Prop} (hC0 : ∀ (σ : ZS), C0 (σ) → Z Γ 0 0 σ [] 0 [(0, .ref (ad 45)), (1, .ref (ad 51))] []) (v2 : Int) (σ : ZS) (h : wc_X4_read_85 C0 post v2 σ) : Z Γ 0 0 σ [] 85 [(0, .ref (ad 45)), (1, .ref (ad 51)), (2, .int (iz v2))] [] := by
  refine z_iload_n X 2 dX4_read_85 rfl ?_
  refine z_sipush X 130 dX4_read_86 rfl ?_
  obtain ⟨i1, h⟩ := h
  refine z_icmp_lt X 132 dX4_read_89 rfl i1 (by decide) (fun c2 => ?_) (fun c2 => ?_)
  · have h := h.1 c2
    exact z_sub [0, 1, 2] rfl (wkc_X4_read_132 X K hR hC0 _ _ h)
  · have h := h.2 c2
    refine z_iload_n X 2 dX4_read_92 rfl ?_
    refine z_sipush X 229 dX4_read_93 rfl ?_
    refine z_icmp_gt X 132 dX4_read_96 rfl i1 (by decide) (fun c3 => ?_) (fun c3 => ?_)
    · have h := h.1 c3
      exact z_sub [0, 1, 2] rfl (wkc_X4_read_132 X K hR hC0 _ _ h)
    · have h := h.2 c3
      refine z_aload_n X 0 dX4_read_99 rfl ?_
      refine z_bipush X 48 dX4_read_100 rfl ?_
      refine z_iload_n X 2 dX4_read_102 rfl ?_
      refine z_sipush X 130 dX4_read_103 rfl ?_
      refine z_isub X dX4_read_106 ?_
      refine z_bipush X 10 dX4_read_107 rfl ?_
      obtain ⟨i4, h⟩ := h
      obtain ⟨g5, h⟩ := h
      refine z_idiv X dX4_read_109 ⟨i4, (by decide), g5, (by decide)⟩ ?_
      refine z_iadd X dX4_read_110 ?_
      refine clc_X4_44 X K rfl h (Nat.le_of_ble_eq_true rfl) dX4_read_111 ⟨Nat.zero_le _, Nat.zero_le _⟩ (fun σ6 h => ?_)
      refine z_aload_n X 0 dX4_read_114 rfl ?_
      refine z_bipush X 48 dX4_read_115 rfl ?_
      refine z_iload_n X 2 dX4_read_117 rfl ?_
      refine z_sipush X 130 dX4_read_118 rfl ?_
      refine z_isub X dX4_read_121 ?_
      refine z_bipush X 10 dX4_read_122 rfl ?_
      refine z_irem X dX4_read_124 ⟨i4, (by decide), g5, (by decide)⟩ ?_
      refine z_iadd X dX4_read_125 ?_
      refine clc_X4_44 X K rfl h (Nat.le_of_ble_eq_true rfl) dX4_read_126 ⟨Nat.zero_le _, Nat.zero_le _⟩ (fun σ7 h => ?_)
      refine z_goto (tgt := 184) X dX4_read_129 rfl ?_
      refine z_goto (tgt := 0) X dX4_read_184 rfl ?_
      exact z_sub [0, 1] rfl (hC0 _ h)
set_option maxRecDepth 100000 in
theorem wkc_X4_read_23 {Γ : ZG} {l : Launch} {D : va_G} {ds : Nat → ClassId} {ad : Nat → Nat} {post : ZS → Prop} (X : ZX Γ cX4_read RX4 8 173) (K : ZCap Γ l (ΘC D ds ad) 4 0 0) (hR : ZRetV Γ cX4_read 0 0 post) {C0 : ZS → Prop} (hC0 : ∀ (σ : ZS), C0 (σ) → Z Γ 0 0 σ [] 0 [(0, .ref (ad 45)), (1, .ref (ad 51))] []) : ∀ (N : Nat) (σ : ZS), zfix (wbc_X4_read_23 C0 post) N (σ) → Z Γ 0 0 σ [] 23 [(0, .ref (ad 45)), (1, .ref (ad 51))] [] := by
  intro N
  induction N with
  | zero => intro  σ h; exact False.elim h
  | succ N ih =>
    intro  σ h
    have h : wbc_X4_read_23 C0 post (zfix (wbc_X4_read_23 C0 post) N) (σ) := h
    have hC23 := ih
    clear ih
    generalize zfix (wbc_X4_read_23 C0 post) N = C23 at h hC23
    dsimp only [wbc_X4_read_23] at h
    refine z_aload_n X 0 dX4_read_23 rfl ?_
    refine gC_X4_23_X4 X K (Or.inl rfl) dX4_read_24 ?_
    refine z_aload_n X 0 dX4_read_27 rfl ?_
    refine gC_X4_19_X4 X K (Or.inl rfl) dX4_read_28 ?_
    obtain ⟨i1, h⟩ := h
    obtain ⟨i2, h⟩ := h
    refine z_icmp_ge X 184 dX4_read_31 rfl i1 i2 (fun c3 => ?_) (fun c3 => ?_)
    · have h := h.1 c3
      refine z_goto (tgt := 0) X dX4_read_184 rfl ?_
      exact z_sub [0, 1] rfl (hC0 _ h)
    · have h := h.2 c3
      refine z_aload_n X 0 dX4_read_34 rfl ?_
      refine gC_X4_23_X4 X K (Or.inl rfl) dX4_read_35 ?_
      refine z_iconst X 1 dX4_read_38 ?_
      refine z_iadd X dX4_read_39 ?_
      refine clc_X4_32 X K rfl h (Nat.le_of_ble_eq_true rfl) dX4_read_40 ⟨Nat.zero_le _, Nat.zero_le _⟩ (fun r5 σ4 h => ?_)
      refine z_istore_nK X K (lv' := [(3, .int (iz r5)), (0, .ref (ad 45)), (1, .ref (ad 51))]) dX4_read_43 rfl rfl ?_
      refine z_aload_n X 1 dX4_read_44 rfl ?_
      refine clc_X4_40 X K rfl h (Nat.le_of_ble_eq_true rfl) dX4_read_45 ⟨Nat.zero_le _, Nat.zero_le _⟩ (fun r7 σ6 h => ?_)
      refine z_iload_n X 0 dX4_read_48 rfl ?_
      obtain ⟨i8, h⟩ := h
      obtain ⟨i9, h⟩ := h
      refine z_icmp_eq X 60 dX4_read_49 rfl i8 i9 (fun c10 => ?_) (fun c10 => ?_)
      · have h := h.1 c10
        refine z_goto (tgt := 23) X dX4_read_60 rfl ?_
        exact z_sub [1, 2] rfl (hC23 _ h)
      · have h := h.2 c10
        exact h.elim
set_option maxRecDepth 100000 in
theorem wkc_X4_read_0 {Γ : ZG} {l : Launch} {D : va_G} {ds : Nat → ClassId} {ad : Nat → Nat} {post : ZS → Prop} (X : ZX Γ cX4_read RX4 8 173) (K : ZCap Γ l (ΘC D ds ad) 4 0 0) (hR : ZRetV Γ cX4_read 0 0 post) : ∀ (N : Nat) (σ : ZS), zfix (wbc_X4_read_0 post) N (σ) → Z Γ 0 0 σ [] 0 [(0, .ref (ad 45)), (1, .ref (ad 51))] [] := by
  intro N
  induction N with
  | zero => intro  σ h; exact False.elim h
  | succ N ih =>
    intro  σ h
    have h : wbc_X4_read_0 post (zfix (wbc_X4_read_0 post) N) (σ) := h
    have hC0 := ih
    clear ih
    generalize zfix (wbc_X4_read_0 post) N = C0 at h hC0
    dsimp only [wbc_X4_read_0] at h
    refine z_aload_n X 0 dX4_read_0 rfl ?_
    refine gC_X4_23_X4 X K (Or.inl rfl) dX4_read_1 ?_
    refine z_aload_n X 0 dX4_read_4 rfl ?_
    refine gC_X4_19_X4 X K (Or.inl rfl) dX4_read_5 ?_
    obtain ⟨i1, h⟩ := h
    obtain ⟨i2, h⟩ := h
    refine z_icmp_ge X 187 dX4_read_8 rfl i1 i2 (fun c3 => ?_) (fun c3 => ?_)
    · have h := h.1 c3
      exact hR _ _ _ _ _ _ dX4_read_187 (Nat.le_refl 0) (Nat.le_refl 0) h
    · have h := h.2 c3
      refine z_aload_n X 0 dX4_read_11 rfl ?_
      refine clc_X4_40 X K rfl h (Nat.le_of_ble_eq_true rfl) dX4_read_12 ⟨Nat.zero_le _, Nat.zero_le _⟩ (fun r5 σ4 h => ?_)
      refine z_istore_nK X K (lv' := [(2, .int (iz r5)), (0, .ref (ad 45)), (1, .ref (ad 51))]) dX4_read_15 rfl rfl ?_
      refine z_iload_n X 0 dX4_read_16 rfl ?_
      refine z_sipush X 129 dX4_read_17 rfl ?_
      obtain ⟨i6, h⟩ := h
      refine z_icmp_ne X 63 dX4_read_20 rfl i6 (by decide) (fun c7 => ?_) (fun c7 => ?_)
      · have h := h.1 c7
        refine z_iload_n X 0 dX4_read_63 rfl ?_
        refine z_iconst X 1 dX4_read_64 ?_
        refine z_icmp_lt X 85 dX4_read_65 rfl i6 (by decide) (fun c8 => ?_) (fun c8 => ?_)
        · have h := h.1 c8
          exact z_sub [1, 2, 0] rfl (wkc_X4_read_85 X K hR hC0 _ _ h)
        · have h := h.2 c8
          refine z_iload_n X 0 dX4_read_68 rfl ?_
          refine z_sipush X 128 dX4_read_69 rfl ?_
          refine z_icmp_gt X 85 dX4_read_72 rfl i6 (by decide) (fun c9 => ?_) (fun c9 => ?_)
          · have h := h.1 c9
            exact z_sub [1, 2, 0] rfl (wkc_X4_read_85 X K hR hC0 _ _ h)
          · have h := h.2 c9
            refine z_aload_n X 1 dX4_read_75 rfl ?_
            refine z_iload_n X 0 dX4_read_76 rfl ?_
            refine z_iconst X 1 dX4_read_77 ?_
            refine z_isub X dX4_read_78 ?_
            refine clc_X4_44 X K rfl h (Nat.le_of_ble_eq_true rfl) dX4_read_79 ⟨Nat.zero_le _, Nat.zero_le _⟩ (fun σ10 h => ?_)
            refine z_goto (tgt := 184) X dX4_read_82 rfl ?_
            refine z_goto (tgt := 0) X dX4_read_184 rfl ?_
            exact z_sub [1, 2] rfl (hC0 _ h)
      · have h := h.2 c7
        obtain ⟨N, h⟩ := h
        exact z_sub [1, 2] rfl (wkc_X4_read_23 X K hR hC0 N _ h)
set_option maxRecDepth 100000 in
theorem mtc_X4_read (l : Launch) (D : va_G) (ds : Nat → ClassId) (ad : Nat → Nat) (σ : ZS) (post : ZS → Prop) (h : wc_X4_read  σ post) : ZMetV l (ΘC D ds ad) yX4_read cX4_read 4 8 173 0 0 [.ref (ad 45), .ref (ad 51)] σ post := by
  refine ZMetV.of (by decide) (Nat.le_of_ble_eq_true rfl) (fun Γ X K hR => ?_)
  have X : ZX Γ cX4_read RX4 8 173 := X
  refine z_sub [0, 1] (lv' := [(0, .ref (ad 45)), (1, .ref (ad 51))]) rfl ?_
  obtain ⟨N, h⟩ := h
  exact z_sub [0, 1] rfl (wkc_X4_read_0 X K hR N _ h)
/- X4_read -/
theorem clx_X4_51_En {Γ : ZG} {cc : ByteArray} {fr lo nL mc0 ms0 k n pc : Nat} {xs : va_W} {lv : List (Nat × Value)} {st : List Value} {l : Launch} {D : va_G} {ds : Nat → ClassId} {ad : Nat → Nat} {σ : ZS} {post : ZS → Prop} (X : ZX Γ cc RX4 fr lo) (K : ZCap Γ l (ΘC D ds ad) nL mc0 ms0) {o : Nat} (ho : isEn o) (hrm : zroom 8 173 fr lo = true) (h : wvx_En_read o σ post) (hst : (st.map fun v => v.category).sum ≤ 8) (d : decode cc pc = .ok (.invokevirtual 51, 3)) (hcs : k + 1 ≤ mc0 ∧ n + 6 ≤ ms0) (kk : ∀ (σ' : ZS) (q : Nat), post σ' → ZThrow Γ (k + 1) (n + 6) σ' xs pc lv st q) : Z Γ k n σ xs pc lv (.ref (ad 45) :: .ref (ad o) :: st) := by
  rcases ho with rfl | rfl | rfl | rfl | rfl
  · exact z_callUX' (C := RX8) (owner := "MatrixPress$Encodation") (q0 := 53) X K (mtx_X7_read l D ds ad 53 σ post (h.1 (Or.inl rfl))) (Nat.le_of_ble_eq_true rfl) rfl rfl rfl (lw_U q1028 q1030 q1055 q1056 q117 q1057) (va_Decl.abs (X.nw q1029 rfl)) ⟨by decide, by decide, rfl⟩ (zroom_of (zroom_le hrm (by decide))) ⟨by rw [K.2.2.2.1]; exact hcs.1, by rw [K.2.2.2.2]; exact hcs.2⟩ hst d rfl kk
  · exact z_callUX' (C := RX8) (owner := "MatrixPress$Encodation") (q0 := 56) X K (mtx_X7_read l D ds ad 56 σ post (h.1 (Or.inr rfl))) (Nat.le_of_ble_eq_true rfl) rfl rfl rfl (lw_U q1028 q1030 q1055 q1056 q117 q1057) (va_Decl.abs (X.nw q1029 rfl)) ⟨by decide, by decide, rfl⟩ (zroom_of (zroom_le hrm (by decide))) ⟨by rw [K.2.2.2.1]; exact hcs.1, by rw [K.2.2.2.2]; exact hcs.2⟩ hst d rfl kk
  · exact z_callUX' (C := RX9) (owner := "MatrixPress$Encodation") (q0 := 59) X K (mtx_X7_read l D ds ad 59 σ post (h.2.1 rfl)) (Nat.le_of_ble_eq_true rfl) rfl rfl rfl (lw_U q1028 q1030 q1102 q1056 q117 q1057) (va_Decl.abs (X.nw q1029 rfl)) ⟨by decide, by decide, rfl⟩ (zroom_of (zroom_le hrm (by decide))) ⟨by rw [K.2.2.2.1]; exact hcs.1, by rw [K.2.2.2.2]; exact hcs.2⟩ hst d rfl kk
  · exact z_callUX' (C := RX10) (owner := "MatrixPress$Encodation") (q0 := 62) X K (mtx_X10_read l D ds ad  σ post (h.2.2.1 rfl)) (Nat.le_of_ble_eq_true rfl) rfl rfl rfl (lw_U q1028 q1030 q1043 q1044 q124 q1045) (va_Decl.abs (X.nw q1029 rfl)) ⟨by decide, by decide, rfl⟩ (zroom_of (zroom_le hrm (by decide))) ⟨by rw [K.2.2.2.1]; exact hcs.1, by rw [K.2.2.2.2]; exact hcs.2⟩ hst d rfl kk
  · exact z_callUX' (C := RX11) (owner := "MatrixPress$Encodation") (q0 := 64) X K (mtx_X11_read l D ds ad  σ post (h.2.2.2 rfl)) (Nat.le_of_ble_eq_true rfl) rfl rfl rfl (lw_U q1028 q1030 q1031 q1032 q125 q1033) (va_Decl.abs (X.nw q1029 rfl)) ⟨by decide, by decide, rfl⟩ (zroom_of (zroom_le hrm (by decide))) ⟨by rw [K.2.2.2.1]; exact hcs.1, by rw [K.2.2.2.2]; exact hcs.2⟩ hst d rfl kk
theorem clx_X4_47 {Γ : ZG} {cc : ByteArray} {fr lo nL mc0 ms0 k n pc : Nat} {xs : va_W} {lv : List (Nat × Value)} {st : List Value} {l : Launch} {D : va_G} {ds : Nat → ClassId} {ad : Nat → Nat} {a1 : Int} {σ : ZS} {post : ZS → Prop} (X : ZX Γ cc RX4 fr lo) (K : ZCap Γ l (ΘC D ds ad) nL mc0 ms0) (hrm : zroom 6 126 fr lo = true) (h : wx_X4_latched a1 σ post) (hst : (st.map fun v => v.category).sum ≤ 8) (d : decode cc pc = .ok (.invokestatic 47, 3)) (hcs : k + 1 ≤ mc0 ∧ n + 6 ≤ ms0) (kk : ∀ (σ' : ZS) (q : Nat), post σ' → ZThrow Γ (k + 1) (n + 6) σ' xs pc lv st q) : Z Γ k n σ xs pc lv (.int (iz a1) :: .ref (ad 51) :: st) := 
  z_callSX' X K (mtx_X4_latched l D ds ad a1 σ post h) (lw_S q1022 q1023 q111 q1024) ⟨by decide, by decide, rfl⟩ (zroom_of (zroom_le hrm (by decide))) ⟨by rw [K.2.2.2.1]; exact hcs.1, by rw [K.2.2.2.2]; exact hcs.2⟩ hst d rfl kk
theorem clx_X4_40 {Γ : ZG} {cc : ByteArray} {fr lo nL mc0 ms0 k n pc : Nat} {xs : va_W} {lv : List (Nat × Value)} {st : List Value} {l : Launch} {D : va_G} {ds : Nat → ClassId} {ad : Nat → Nat} {σ : ZS} {post : ZS → Prop} (X : ZX Γ cc RX4 fr lo) (K : ZCap Γ l (ΘC D ds ad) nL mc0 ms0) (hrm : zroom 6 124 fr lo = true) (h : wx_X4_next σ post) (hst : (st.map fun v => v.category).sum ≤ 8) (d : decode cc pc = .ok (.invokevirtual 40, 3)) (hcs : k + 1 ≤ mc0 ∧ n + 6 ≤ ms0) (kk : ∀ (σ' : ZS) (q : Nat), post σ' → ZThrow Γ (k + 1) (n + 6) σ' xs pc lv st q) : Z Γ k n σ xs pc lv (.ref (ad 45) :: st) := 
  z_callVX' (C := RX4) (q0 := 45) X K (mtx_X4_next l D ds ad  σ post h) (Nat.le_of_ble_eq_true rfl) rfl rfl rfl (lw_V q991 q992 q993 q111 q994) ⟨rfl, by decide, by decide, rfl⟩ (zroom_of (zroom_le hrm (by decide))) ⟨by rw [K.2.2.2.1]; exact hcs.1, by rw [K.2.2.2.2]; exact hcs.2⟩ hst d rfl kk
set_option maxRecDepth 100000 in
theorem wkx_X4_read_156 {Γ : ZG} {l : Launch} {D : va_G} {ds : Nat → ClassId} {ad : Nat → Nat} {post : ZS → Prop} (X : ZX Γ cX4_read RX4 8 173) (K : ZCap Γ l (ΘC D ds ad) 4 1 6) (hR : ZOut Γ post) (σ : ZS) (h : wx_X4_read_156 post σ) : Z Γ 0 0 σ [] 156 [] [] := by
  exact z_throwNS q995 q1004 X K rfl dX4_read_156 dX4_read_159 dX4_read_160 dX4_read_163 (Nat.le_of_ble_eq_true rfl) ⟨Nat.le_refl 1, Nat.le_refl 6⟩ (fun q => hR _ _ _ _ _ _ _ q (Nat.le_refl 1) (Nat.le_refl 6) h)
set_option maxRecDepth 100000 in
theorem wkx_X4_read_132 {Γ : ZG} {l : Launch} {D : va_G} {ds : Nat → ClassId} {ad : Nat → Nat} {post : ZS → Prop} (X : ZX Γ cX4_read RX4 8 173) (K : ZCap Γ l (ΘC D ds ad) 4 1 6) (hR : ZOut Γ post) {C0 : ZS → Prop} (hC0 : ∀ (σ : ZS), C0 (σ) → Z Γ 0 0 σ [] 0 [(0, .ref (ad 45)), (1, .ref (ad 51))] []) (v2 : Int) (σ : ZS) (h : wx_X4_read_132 C0 post v2 σ) : Z Γ 0 0 σ [] 132 [(0, .ref (ad 45)), (1, .ref (ad 51)), (2, .int (iz v2))] [] := by
  refine z_iload_n X 2 dX4_read_132 rfl ?_
  refine z_sipush X 235 dX4_read_133 rfl ?_
  obtain ⟨i1, h⟩ := h
  refine z_icmp_ne X 175 dX4_read_136 rfl i1 (by decide) (fun c2 => ?_) (fun c2 => ?_)
  · have h := h.1 c2
    refine z_aload_n X 1 dX4_read_175 rfl ?_
    refine z_iload_n X 2 dX4_read_176 rfl ?_
    rcases h with h | h
    · refine clc_X4_47 X K rfl h (Nat.le_of_ble_eq_true rfl) dX4_read_177 ⟨Nat.zero_le _, Nat.zero_le _⟩ (fun r4 σ3 h => ?_)
      obtain ⟨hr4, h⟩ := h
      refine z_aload_n X 0 dX4_read_180 rfl ?_
      rcases h with h | h
      · refine clc_X4_51_En X K hr4 rfl h (Nat.le_of_ble_eq_true rfl) dX4_read_181 ⟨Nat.zero_le _, Nat.zero_le _⟩ (fun σ5 h => ?_)
        refine z_goto (tgt := 0) X dX4_read_184 rfl ?_
        exact z_sub [0, 1] rfl (hC0 _ h)
      · exact clx_X4_51_En X K hr4 rfl h (Nat.le_of_ble_eq_true rfl) dX4_read_181 ⟨Nat.le_refl 1, Nat.le_refl 6⟩ (fun _ q h => hR _ _ _ _ _ _ _ q (Nat.le_refl 1) (Nat.le_refl 6) h)
    · exact clx_X4_47 X K rfl h (Nat.le_of_ble_eq_true rfl) dX4_read_177 ⟨Nat.le_refl 1, Nat.le_refl 6⟩ (fun _ q h => hR _ _ _ _ _ _ _ q (Nat.le_refl 1) (Nat.le_refl 6) h)
  · have h := h.2 c2
    refine z_aload_n X 0 dX4_read_139 rfl ?_
    rcases h with h | h
    · refine clc_X4_40 X K rfl h (Nat.le_of_ble_eq_true rfl) dX4_read_140 ⟨Nat.zero_le _, Nat.zero_le _⟩ (fun r7 σ6 h => ?_)
      refine z_istore_nK X K (lv' := [(3, .int (iz r7)), (0, .ref (ad 45)), (1, .ref (ad 51)), (2, .int (iz v2))]) dX4_read_143 rfl rfl ?_
      refine z_iload_n X 0 dX4_read_144 rfl ?_
      refine z_iconst X 1 dX4_read_145 ?_
      obtain ⟨i8, h⟩ := h
      refine z_icmp_lt X 156 dX4_read_146 rfl i8 (by decide) (fun c9 => ?_) (fun c9 => ?_)
      · have h := h.1 c9
        exact z_sub [] rfl (wkx_X4_read_156 X K hR _ h)
      · have h := h.2 c9
        refine z_iload_n X 0 dX4_read_149 rfl ?_
        refine z_sipush X 128 dX4_read_150 rfl ?_
        refine z_icmp_le X 164 dX4_read_153 rfl i8 (by decide) (fun c10 => ?_) (fun c10 => ?_)
        · have h := h.1 c10
          refine z_aload_n X 1 dX4_read_164 rfl ?_
          refine z_iload_n X 0 dX4_read_165 rfl ?_
          refine z_bipush X 127 dX4_read_166 rfl ?_
          refine z_iadd X dX4_read_168 ?_
          refine clc_X4_44 X K rfl h (Nat.le_of_ble_eq_true rfl) dX4_read_169 ⟨Nat.zero_le _, Nat.zero_le _⟩ (fun σ11 h => ?_)
          refine z_goto (tgt := 184) X dX4_read_172 rfl ?_
          refine z_goto (tgt := 0) X dX4_read_184 rfl ?_
          exact z_sub [1, 2] rfl (hC0 _ h)
        · have h := h.2 c10
          exact z_sub [] rfl (wkx_X4_read_156 X K hR _ h)
    · exact clx_X4_40 X K rfl h (Nat.le_of_ble_eq_true rfl) dX4_read_140 ⟨Nat.le_refl 1, Nat.le_refl 6⟩ (fun _ q h => hR _ _ _ _ _ _ _ q (Nat.le_refl 1) (Nat.le_refl 6) h)
set_option maxRecDepth 100000 in
theorem wkx_X4_read_85 {Γ : ZG} {l : Launch} {D : va_G} {ds : Nat → ClassId} {ad : Nat → Nat} {post : ZS → Prop} (X : ZX Γ cX4_read RX4 8 173) (K : ZCap Γ l (ΘC D ds ad) 4 1 6) (hR : ZOut Γ post) {C0 : ZS → Prop} (hC0 : ∀ (σ : ZS), C0 (σ) → Z Γ 0 0 σ [] 0 [(0, .ref (ad 45)), (1, .ref (ad 51))] []) (v2 : Int) (σ : ZS) (h : wx_X4_read_85 C0 post v2 σ) : Z Γ 0 0 σ [] 85 [(0, .ref (ad 45)), (1, .ref (ad 51)), (2, .int (iz v2))] [] := by
  refine z_iload_n X 2 dX4_read_85 rfl ?_
  refine z_sipush X 130 dX4_read_86 rfl ?_
  obtain ⟨i1, h⟩ := h
  refine z_icmp_lt X 132 dX4_read_89 rfl i1 (by decide) (fun c2 => ?_) (fun c2 => ?_)
  · have h := h.1 c2
    exact z_sub [0, 1, 2] rfl (wkx_X4_read_132 X K hR hC0 _ _ h)
  · have h := h.2 c2
    refine z_iload_n X 2 dX4_read_92 rfl ?_
    refine z_sipush X 229 dX4_read_93 rfl ?_
    refine z_icmp_gt X 132 dX4_read_96 rfl i1 (by decide) (fun c3 => ?_) (fun c3 => ?_)
    · have h := h.1 c3
      exact z_sub [0, 1, 2] rfl (wkx_X4_read_132 X K hR hC0 _ _ h)
    · have h := h.2 c3
      refine z_aload_n X 0 dX4_read_99 rfl ?_
      refine z_bipush X 48 dX4_read_100 rfl ?_
      refine z_iload_n X 2 dX4_read_102 rfl ?_
      refine z_sipush X 130 dX4_read_103 rfl ?_
      refine z_isub X dX4_read_106 ?_
      refine z_bipush X 10 dX4_read_107 rfl ?_
      obtain ⟨i4, h⟩ := h
      obtain ⟨g5, h⟩ := h
      refine z_idiv X dX4_read_109 ⟨i4, (by decide), g5, (by decide)⟩ ?_
      refine z_iadd X dX4_read_110 ?_
      refine clc_X4_44 X K rfl h (Nat.le_of_ble_eq_true rfl) dX4_read_111 ⟨Nat.zero_le _, Nat.zero_le _⟩ (fun σ6 h => ?_)
      refine z_aload_n X 0 dX4_read_114 rfl ?_
      refine z_bipush X 48 dX4_read_115 rfl ?_
      refine z_iload_n X 2 dX4_read_117 rfl ?_
      refine z_sipush X 130 dX4_read_118 rfl ?_
      refine z_isub X dX4_read_121 ?_
      refine z_bipush X 10 dX4_read_122 rfl ?_
      refine z_irem X dX4_read_124 ⟨i4, (by decide), g5, (by decide)⟩ ?_
      refine z_iadd X dX4_read_125 ?_
      refine clc_X4_44 X K rfl h (Nat.le_of_ble_eq_true rfl) dX4_read_126 ⟨Nat.zero_le _, Nat.zero_le _⟩ (fun σ7 h => ?_)
      refine z_goto (tgt := 184) X dX4_read_129 rfl ?_
      refine z_goto (tgt := 0) X dX4_read_184 rfl ?_
      exact z_sub [0, 1] rfl (hC0 _ h)
set_option maxRecDepth 100000 in
theorem wkx_X4_read_23 {Γ : ZG} {l : Launch} {D : va_G} {ds : Nat → ClassId} {ad : Nat → Nat} {post : ZS → Prop} (X : ZX Γ cX4_read RX4 8 173) (K : ZCap Γ l (ΘC D ds ad) 4 1 6) (hR : ZOut Γ post) {C0 : ZS → Prop} (hC0 : ∀ (σ : ZS), C0 (σ) → Z Γ 0 0 σ [] 0 [(0, .ref (ad 45)), (1, .ref (ad 51))] []) : ∀ (N : Nat) (σ : ZS), zfix (wbx_X4_read_23 C0 post) N (σ) → Z Γ 0 0 σ [] 23 [(0, .ref (ad 45)), (1, .ref (ad 51))] [] := by
  intro N
  induction N with
  | zero => intro  σ h; exact False.elim h
  | succ N ih =>
    intro  σ h
    have h : wbx_X4_read_23 C0 post (zfix (wbx_X4_read_23 C0 post) N) (σ) := h
    have hC23 := ih
    clear ih
    generalize zfix (wbx_X4_read_23 C0 post) N = C23 at h hC23
    dsimp only [wbx_X4_read_23] at h
    refine z_aload_n X 0 dX4_read_23 rfl ?_
    refine gC_X4_23_X4 X K (Or.inl rfl) dX4_read_24 ?_
    refine z_aload_n X 0 dX4_read_27 rfl ?_
    refine gC_X4_19_X4 X K (Or.inl rfl) dX4_read_28 ?_
    obtain ⟨i1, h⟩ := h
    obtain ⟨i2, h⟩ := h
    refine z_icmp_ge X 184 dX4_read_31 rfl i1 i2 (fun c3 => ?_) (fun c3 => ?_)
    · have h := h.1 c3
      refine z_goto (tgt := 0) X dX4_read_184 rfl ?_
      exact z_sub [0, 1] rfl (hC0 _ h)
    · have h := h.2 c3
      refine z_aload_n X 0 dX4_read_34 rfl ?_
      refine gC_X4_23_X4 X K (Or.inl rfl) dX4_read_35 ?_
      refine z_iconst X 1 dX4_read_38 ?_
      refine z_iadd X dX4_read_39 ?_
      refine clc_X4_32 X K rfl h (Nat.le_of_ble_eq_true rfl) dX4_read_40 ⟨Nat.zero_le _, Nat.zero_le _⟩ (fun r5 σ4 h => ?_)
      refine z_istore_nK X K (lv' := [(3, .int (iz r5)), (0, .ref (ad 45)), (1, .ref (ad 51))]) dX4_read_43 rfl rfl ?_
      refine z_aload_n X 1 dX4_read_44 rfl ?_
      rcases h with h | h
      · refine clc_X4_40 X K rfl h (Nat.le_of_ble_eq_true rfl) dX4_read_45 ⟨Nat.zero_le _, Nat.zero_le _⟩ (fun r7 σ6 h => ?_)
        refine z_iload_n X 0 dX4_read_48 rfl ?_
        obtain ⟨i8, h⟩ := h
        obtain ⟨i9, h⟩ := h
        refine z_icmp_eq X 60 dX4_read_49 rfl i8 i9 (fun c10 => ?_) (fun c10 => ?_)
        · have h := h.1 c10
          refine z_goto (tgt := 23) X dX4_read_60 rfl ?_
          exact z_sub [1, 2] rfl (hC23 _ h)
        · have h := h.2 c10
          exact z_throwNS q995 q1004 X K rfl dX4_read_52 dX4_read_55 dX4_read_56 dX4_read_59 (Nat.le_of_ble_eq_true rfl) ⟨Nat.le_refl 1, Nat.le_refl 6⟩ (fun q => hR _ _ _ _ _ _ _ q (Nat.le_refl 1) (Nat.le_refl 6) h)
      · exact clx_X4_40 X K rfl h (Nat.le_of_ble_eq_true rfl) dX4_read_45 ⟨Nat.le_refl 1, Nat.le_refl 6⟩ (fun _ q h => hR _ _ _ _ _ _ _ q (Nat.le_refl 1) (Nat.le_refl 6) h)
set_option maxRecDepth 100000 in
theorem wkx_X4_read_0 {Γ : ZG} {l : Launch} {D : va_G} {ds : Nat → ClassId} {ad : Nat → Nat} {post : ZS → Prop} (X : ZX Γ cX4_read RX4 8 173) (K : ZCap Γ l (ΘC D ds ad) 4 1 6) (hR : ZOut Γ post) : ∀ (N : Nat) (σ : ZS), zfix (wbx_X4_read_0 post) N (σ) → Z Γ 0 0 σ [] 0 [(0, .ref (ad 45)), (1, .ref (ad 51))] [] := by
  intro N
  induction N with
  | zero => intro  σ h; exact False.elim h
  | succ N ih =>
    intro  σ h
    have h : wbx_X4_read_0 post (zfix (wbx_X4_read_0 post) N) (σ) := h
    have hC0 := ih
    clear ih
    generalize zfix (wbx_X4_read_0 post) N = C0 at h hC0
    dsimp only [wbx_X4_read_0] at h
    refine z_aload_n X 0 dX4_read_0 rfl ?_
    refine gC_X4_23_X4 X K (Or.inl rfl) dX4_read_1 ?_
    refine z_aload_n X 0 dX4_read_4 rfl ?_
    refine gC_X4_19_X4 X K (Or.inl rfl) dX4_read_5 ?_
    obtain ⟨i1, h⟩ := h
    obtain ⟨i2, h⟩ := h
    refine z_icmp_ge X 187 dX4_read_8 rfl i1 i2 (fun c3 => ?_) (fun c3 => ?_)
    · have h := h.1 c3
      exact h.elim
    · have h := h.2 c3
      refine z_aload_n X 0 dX4_read_11 rfl ?_
      rcases h with h | h
      · refine clc_X4_40 X K rfl h (Nat.le_of_ble_eq_true rfl) dX4_read_12 ⟨Nat.zero_le _, Nat.zero_le _⟩ (fun r5 σ4 h => ?_)
        refine z_istore_nK X K (lv' := [(2, .int (iz r5)), (0, .ref (ad 45)), (1, .ref (ad 51))]) dX4_read_15 rfl rfl ?_
        refine z_iload_n X 0 dX4_read_16 rfl ?_
        refine z_sipush X 129 dX4_read_17 rfl ?_
        obtain ⟨i6, h⟩ := h
        refine z_icmp_ne X 63 dX4_read_20 rfl i6 (by decide) (fun c7 => ?_) (fun c7 => ?_)
        · have h := h.1 c7
          refine z_iload_n X 0 dX4_read_63 rfl ?_
          refine z_iconst X 1 dX4_read_64 ?_
          refine z_icmp_lt X 85 dX4_read_65 rfl i6 (by decide) (fun c8 => ?_) (fun c8 => ?_)
          · have h := h.1 c8
            exact z_sub [1, 2, 0] rfl (wkx_X4_read_85 X K hR hC0 _ _ h)
          · have h := h.2 c8
            refine z_iload_n X 0 dX4_read_68 rfl ?_
            refine z_sipush X 128 dX4_read_69 rfl ?_
            refine z_icmp_gt X 85 dX4_read_72 rfl i6 (by decide) (fun c9 => ?_) (fun c9 => ?_)
            · have h := h.1 c9
              exact z_sub [1, 2, 0] rfl (wkx_X4_read_85 X K hR hC0 _ _ h)
            · have h := h.2 c9
              refine z_aload_n X 1 dX4_read_75 rfl ?_
              refine z_iload_n X 0 dX4_read_76 rfl ?_
              refine z_iconst X 1 dX4_read_77 ?_
              refine z_isub X dX4_read_78 ?_
              refine clc_X4_44 X K rfl h (Nat.le_of_ble_eq_true rfl) dX4_read_79 ⟨Nat.zero_le _, Nat.zero_le _⟩ (fun σ10 h => ?_)
              refine z_goto (tgt := 184) X dX4_read_82 rfl ?_
              refine z_goto (tgt := 0) X dX4_read_184 rfl ?_
              exact z_sub [1, 2] rfl (hC0 _ h)
        · have h := h.2 c7
          obtain ⟨N, h⟩ := h
          exact z_sub [1, 2] rfl (wkx_X4_read_23 X K hR hC0 N _ h)
      · exact clx_X4_40 X K rfl h (Nat.le_of_ble_eq_true rfl) dX4_read_12 ⟨Nat.le_refl 1, Nat.le_refl 6⟩ (fun _ q h => hR _ _ _ _ _ _ _ q (Nat.le_refl 1) (Nat.le_refl 6) h)
set_option maxRecDepth 100000 in
theorem mtx_X4_read (l : Launch) (D : va_G) (ds : Nat → ClassId) (ad : Nat → Nat) (σ : ZS) (post : ZS → Prop) (h : wx_X4_read  σ post) : ZMetX l (ΘC D ds ad) yX4_read cX4_read 4 none 8 173 [.ref (ad 45), .ref (ad 51)] σ post := by
  refine ZMetX.of (by decide) (Nat.le_of_ble_eq_true rfl) (fun Γ X K hR => ?_)
  have X : ZX Γ cX4_read RX4 8 173 := X
  refine z_sub [0, 1] (lv' := [(0, .ref (ad 45)), (1, .ref (ad 51))]) rfl ?_
  obtain ⟨N, h⟩ := h
  exact z_sub [0, 1] rfl (wkx_X4_read_0 X K hR N _ h)
