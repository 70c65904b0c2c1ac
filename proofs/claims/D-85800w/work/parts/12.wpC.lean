/-! what the component's methods ask, over whole numbers (printed by tools/walkgenC.py) -/
/- X5_row -/
def wc_X5_row (o : Nat) (a0 : Int) (σ : ZS) (post : Int → ZS → Prop) : Prop :=
  (isSy o) ∧
  (InR (σ o 5)) ∧
  (0 ≤ (σ o 5)) ∧
  (InR (σ o 3)) ∧
  (0 < (σ o 3)) ∧
  (InR a0) ∧
  (0 ≤ a0) ∧
  (InR ((σ o 5) / (σ o 3))) ∧
  (0 < ((σ o 5) / (σ o 3))) ∧
  post ((a0 + (2 * (a0 / ((σ o 5) / (σ o 3))))) + 1) σ
/- X5_column -/
def wc_X5_column (o : Nat) (a0 : Int) (σ : ZS) (post : Int → ZS → Prop) : Prop :=
  (isSy o) ∧
  (InR (σ o 6)) ∧
  (0 ≤ (σ o 6)) ∧
  (InR (σ o 4)) ∧
  (0 < (σ o 4)) ∧
  (InR a0) ∧
  (0 ≤ a0) ∧
  (InR ((σ o 6) / (σ o 4))) ∧
  (0 < ((σ o 6) / (σ o 4))) ∧
  post ((a0 + (2 * (a0 / ((σ o 6) / (σ o 4))))) + 1) σ
/- X5_border -/
def wc_X5_border (o : Nat) (a0 : Int) (a1 : Int) (σ : ZS) (post : Int → ZS → Prop) : Prop :=
  (isSy o) ∧
  (InR (σ o 1)) ∧
  (0 ≤ (σ o 1)) ∧
  (InR (σ o 3)) ∧
  (0 < (σ o 3)) ∧
  ∀ v3_5 : Int, v3_5 = (σ o 1) / (σ o 3) →
  (InR (σ o 2)) ∧
  (0 ≤ (σ o 2)) ∧
  (InR (σ o 4)) ∧
  (0 < (σ o 4)) ∧
  ∀ v4_10 : Int, v4_10 = (σ o 2) / (σ o 4) →
  (InR a0) ∧
  (0 ≤ a0) ∧
  (InR v3_5) ∧
  (0 < v3_5) ∧
  ∀ v5_15 : Int, v5_15 = a0 % v3_5 →
  (InR a1) ∧
  (0 ≤ a1) ∧
  (InR v4_10) ∧
  (0 < v4_10) ∧
  ∀ v6_20 : Int, v6_20 = a1 % v4_10 →
  (InR v6_20) ∧
  ((v6_20 = 0 →
    post 1 σ
  ) ∧
  (¬ v6_20 = 0 →
    (InR v5_15) ∧
    (InR (v3_5 - 1)) ∧
    ((¬ v5_15 = (v3_5 - 1) →
      ((¬ v5_15 = 0 →
        (InR (v4_10 - 1)) ∧
        ((¬ v6_20 = (v4_10 - 1) →
          post (-1) σ
        ) ∧
        (v6_20 = (v4_10 - 1) →
          (InR ((v3_5 - 1) - v5_15)) ∧
          (0 ≤ ((v3_5 - 1) - v5_15)) ∧
          post (1 - (((v3_5 - 1) - v5_15) % 2)) σ
        ))
      ) ∧
      (v5_15 = 0 →
        (0 ≤ v6_20) ∧
        post (1 - (v6_20 % 2)) σ
      ))
    ) ∧
    (v5_15 = (v3_5 - 1) →
      post 1 σ
    ))
  ))
/- X5_of -/
def wc_X5_of (o : Nat) (a0 : Int) (σ : ZS) (post : Int → ZS → Prop) : Prop :=
  (isSy o) ∧
  (InR ((((σ o 7) - a0) + (σ o 10)) - 1)) ∧
  (0 ≤ ((((σ o 7) - a0) + (σ o 10)) - 1)) ∧
  (InR (σ o 10)) ∧
  (0 < (σ o 10)) ∧
  post (((((σ o 7) - a0) + (σ o 10)) - 1) / (σ o 10)) σ
/- X5_checksOf -/
def wc_X5_checksOf (o : Nat) (σ : ZS) (post : Int → ZS → Prop) : Prop :=
  (isSy o) ∧
  (InR (σ o 8)) ∧
  (0 ≤ (σ o 8)) ∧
  (InR (σ o 10)) ∧
  (0 < (σ o 10)) ∧
  post ((σ o 8) / (σ o 10)) σ
/- X2_put -/
def wc_X2_put (a0 : Int) (a1 : Int) (σ : ZS) (post : ZS → Prop) : Prop :=
  (0 ≤ ((a0 * (σ 32 3)) + a1) ∧ ((a0 * (σ 32 3)) + a1) < 20736) ∧
  ∀ σ2 : ZS, σ2 = zst σ 34 ((a0 * (σ 32 3)) + a1) 1 →
  (0 ≤ (σ2 32 4) ∧ (σ2 32 4) < 17424) ∧
  ∀ σ4 : ZS, σ4 = zst σ2 33 (σ2 32 4) ((a0 * (σ2 32 3)) + a1) →
  ∀ σ5 : ZS, σ5 = zst σ4 32 4 ((σ4 32 4) + 1) →
  post σ5
/- X2_bit -/
def wc_X2_bit_60 (post : ZS → Prop) (v3 : Int) (v4 : Int) (σ : ZS) : Prop :=
  wc_X2_put v3 v4 σ (fun σ1 => 
  post σ1)
def wc_X2_bit_32 (post : ZS → Prop) (v3 : Int) (v4 : Int) (σ : ZS) : Prop :=
  (InR v4) ∧
  ((0 ≤ v4 →
    wc_X2_bit_60 post v3 v4 σ
  ) ∧
  (v4 < 0 →
    ∀ v4_3 : Int, v4_3 = v4 + (σ 32 3) →
    (InR ((σ 32 3) + 4)) ∧
    (0 ≤ ((σ 32 3) + 4)) ∧
    ∀ v3_6 : Int, v3_6 = v3 + (4 - (((σ 32 3) + 4) % 8)) →
    wc_X2_bit_60 post v3_6 v4_3 σ
  ))
def wc_X2_bit (a0 : Int) (a1 : Int) (σ : ZS) (post : ZS → Prop) : Prop :=
  (InR a0) ∧
  ((0 ≤ a0 →
    wc_X2_bit_32 post a0 a1 σ
  ) ∧
  (a0 < 0 →
    ∀ v3_3 : Int, v3_3 = a0 + (σ 32 2) →
    (InR ((σ 32 2) + 4)) ∧
    (0 ≤ ((σ 32 2) + 4)) ∧
    ∀ v4_6 : Int, v4_6 = a1 + (4 - (((σ 32 2) + 4) % 8)) →
    wc_X2_bit_32 post v3_3 v4_6 σ
  ))
/- X2_utah -/
def wc_X2_utah (a0 : Int) (a1 : Int) (σ : ZS) (post : ZS → Prop) : Prop :=
  wc_X2_bit (a0 - 2) (a1 - 2) σ (fun σ1 => 
  wc_X2_bit (a0 - 2) (a1 - 1) σ1 (fun σ2 => 
  wc_X2_bit (a0 - 1) (a1 - 2) σ2 (fun σ3 => 
  wc_X2_bit (a0 - 1) (a1 - 1) σ3 (fun σ4 => 
  wc_X2_bit (a0 - 1) a1 σ4 (fun σ5 => 
  wc_X2_bit a0 (a1 - 2) σ5 (fun σ6 => 
  wc_X2_bit a0 (a1 - 1) σ6 (fun σ7 => 
  wc_X2_bit a0 a1 σ7 (fun σ8 => 
  post σ8))))))))
/- X3_times -/
def wc_X3_times (a0 : Int) (a1 : Int) (σ : ZS) (post : Int → ZS → Prop) : Prop :=
  (InR a0) ∧
  ((a0 = 0 →
    post 0 σ
  ) ∧
  (¬ a0 = 0 →
    (InR a1) ∧
    ((¬ a1 = 0 →
      (0 ≤ a0 ∧ a0 < 256) ∧
      (0 ≤ a1 ∧ a1 < 256) ∧
      (0 ≤ ((σ 37 a0) + (σ 37 a1)) ∧ ((σ 37 a0) + (σ 37 a1)) < 510) ∧
      post (σ 36 ((σ 37 a0) + (σ 37 a1))) σ
    ) ∧
    (a1 = 0 →
      post 0 σ
    ))
  ))
/- X3_over -/
def wc_X3_over (a0 : Int) (a1 : Int) (σ : ZS) (post : Int → ZS → Prop) : Prop :=
  (InR a0) ∧
  ((¬ a0 = 0 →
    (0 ≤ a0 ∧ a0 < 256) ∧
    (0 ≤ a1 ∧ a1 < 256) ∧
    (0 ≤ (((σ 37 a0) + 255) - (σ 37 a1)) ∧ (((σ 37 a0) + 255) - (σ 37 a1)) < 510) ∧
    post (σ 36 (((σ 37 a0) + 255) - (σ 37 a1))) σ
  ) ∧
  (a0 = 0 →
    post 0 σ
  ))
/- X3_check -/
def wbc_X3_check_217 (post : ZS → Prop) (C217 : Int × Int × Int × ZS → Prop) : Int × Int × Int × ZS → Prop := fun (v1, v2, v3, σ) =>
  (InR v3) ∧
  (InR v2) ∧
  ((v2 ≤ v3 →
    post σ
  ) ∧
  (v3 < v2 →
    (0 ≤ v3 ∧ v3 < 70) ∧
    (0 ≤ ((v1 - v2) + v3) ∧ ((v1 - v2) + v3) < 256) ∧
    ∀ σ6 : ZS, σ6 = zst σ 39 ((v1 - v2) + v3) (σ 43 v3) →
    C217 (v1, v2, v3 + 1, σ6)
  ))
def wc_X3_check_186 (C128 : Int × Int × Int × ZS → Prop) (C153 : Int × Int × Int × Int × Int × ZS → Prop) (post : ZS → Prop) (v1 : Int) (v2 : Int) (v3 : Int) (v4 : Int) (v5 : Int) (t0 : Int) (t1 : Int) (σ : ZS) : Prop :=
  (0 ≤ (v5 + 1) ∧ (v5 + 1) < 69) ∧
  wc_X3_times v4 (σ 38 (v5 + 1)) σ (fun r3 σ2 => 
  (0 ≤ t1 ∧ t1 < 70) ∧
  ∀ σ5 : ZS, σ5 = zst σ2 43 t1 (zxor t0 r3) →
  C153 (v1, v2, v3, v4, v5 + 1, σ5))
def wbc_X3_check_153 (C128 : Int × Int × Int × ZS → Prop) (post : ZS → Prop) (C153 : Int × Int × Int × Int × Int × ZS → Prop) : Int × Int × Int × Int × Int × ZS → Prop := fun (v1, v2, v3, v4, v5, σ) =>
  (InR v5) ∧
  (InR v2) ∧
  ((v2 ≤ v5 →
    C128 (v1, v2, v3 + 1, σ)
  ) ∧
  (v5 < v2 →
    (InR (v5 + 1)) ∧
    ((v2 ≤ (v5 + 1) →
      wc_X3_check_186 C128 C153 post v1 v2 v3 v4 v5 0 v5 σ
    ) ∧
    ((v5 + 1) < v2 →
      (0 ≤ (v5 + 1) ∧ (v5 + 1) < 70) ∧
      wc_X3_check_186 C128 C153 post v1 v2 v3 v4 v5 (σ 43 (v5 + 1)) v5 σ
    ))
  ))
def wbc_X3_check_128 (post : ZS → Prop) (C128 : Int × Int × Int × ZS → Prop) : Int × Int × Int × ZS → Prop := fun (v1, v2, v3, σ) =>
  (InR v3) ∧
  (InR (v1 - v2)) ∧
  (((v1 - v2) ≤ v3 →
    ∃ N : Nat, zfix (wbc_X3_check_217 post) N (v1, v2, 0, σ)
  ) ∧
  (v3 < (v1 - v2) →
    (0 ≤ v3 ∧ v3 < 256) ∧
    ∀ v4_5 : Int, v4_5 = zxor (σ 39 v3) (σ 43 0) →
    ∃ N : Nat, zfix (wbc_X3_check_153 C128 post) N (v1, v2, v3, v4_5, 0, σ)
  ))
def wbc_X3_check_108 (post : ZS → Prop) (C108 : Int × Int × Int × ZS → Prop) : Int × Int × Int × ZS → Prop := fun (v1, v2, v3, σ) =>
  (InR v3) ∧
  (InR v2) ∧
  ((v2 ≤ v3 →
    ∃ N : Nat, zfix (wbc_X3_check_128 post) N (v1, v2, 0, σ)
  ) ∧
  (v3 < v2 →
    (0 ≤ v3 ∧ v3 < 70) ∧
    ∀ σ5 : ZS, σ5 = zst σ 43 v3 0 →
    C108 (v1, v2, v3 + 1, σ5)
  ))
def wbc_X3_check_88 (post : ZS → Prop) (C88 : Int × Int × Int × ZS → Prop) : Int × Int × Int × ZS → Prop := fun (v1, v2, v3, σ) =>
  (InR v3) ∧
  (InR v1) ∧
  ((v1 ≤ v3 →
    ∃ N : Nat, zfix (wbc_X3_check_108 post) N (v1, v2, 0, σ)
  ) ∧
  (v3 < v1 →
    (0 ≤ v3 ∧ v3 < 256) ∧
    ∀ σ5 : ZS, σ5 = zst σ 39 v3 0 →
    C88 (v1, v2, v3 + 1, σ5)
  ))
def wbc_X3_check_38 (C30 : Int × Int × Int × ZS → Prop) (post : ZS → Prop) (C38 : Int × Int × Int × Int × ZS → Prop) : Int × Int × Int × Int × ZS → Prop := fun (v1, v2, v3, v4, σ) =>
  (InR v4) ∧
  ((v4 ≤ 0 →
    C30 (v1, v2, v3 + 1, σ)
  ) ∧
  (0 < v4 →
    (0 ≤ v4 ∧ v4 < 69) ∧
    (0 ≤ (v4 - 1) ∧ (v4 - 1) < 69) ∧
    (0 ≤ v3 ∧ v3 < 510) ∧
    wc_X3_times (σ 38 (v4 - 1)) (σ 36 v3) σ (fun r7 σ6 => 
    ∀ σ8 : ZS, σ8 = zst σ6 38 v4 (zxor (σ 38 v4) r7) →
    C38 (v1, v2, v3, v4 + (-1), σ8))
  ))
def wbc_X3_check_30 (post : ZS → Prop) (C30 : Int × Int × Int × ZS → Prop) : Int × Int × Int × ZS → Prop := fun (v1, v2, v3, σ) =>
  (InR v3) ∧
  (InR v2) ∧
  ((v2 < v3 →
    ∀ v3_4 : Int, v3_4 = v1 - v2 →
    ∃ N : Nat, zfix (wbc_X3_check_88 post) N (v1, v2, v3_4, σ)
  ) ∧
  (v3 ≤ v2 →
    ∃ N : Nat, zfix (wbc_X3_check_38 C30 post) N (v1, v2, v3, v3, σ)
  ))
def wc_X3_check_21 (C2 : Int × Int × Int × ZS → Prop) (post : ZS → Prop) (v1 : Int) (v2 : Int) (v3 : Int) (t0 : Int) (t1 : Int) (σ : ZS) : Prop :=
  (0 ≤ t1 ∧ t1 < 69) ∧
  ∀ σ2 : ZS, σ2 = zst σ 38 t1 t0 →
  C2 (v1, v2, v3 + 1, σ2)
def wbc_X3_check_2 (post : ZS → Prop) (C2 : Int × Int × Int × ZS → Prop) : Int × Int × Int × ZS → Prop := fun (v1, v2, v3, σ) =>
  (InR v3) ∧
  (InR v2) ∧
  ((v2 < v3 →
    ∃ N : Nat, zfix (wbc_X3_check_30 post) N (v1, v2, 1, σ)
  ) ∧
  (v3 ≤ v2 →
    ((¬ v3 = 0 →
      wc_X3_check_21 C2 post v1 v2 v3 0 v3 σ
    ) ∧
    (v3 = 0 →
      wc_X3_check_21 C2 post v1 v2 v3 1 v3 σ
    ))
  ))
def wc_X3_check (a0 : Int) (a1 : Int) (σ : ZS) (post : ZS → Prop) : Prop :=
  ∃ N : Nat, zfix (wbc_X3_check_2 post) N (a0, a1, 0, σ)
/- X3_isRight -/
def wc_X3_isRight_77 (C5 : Int × Int × Int × Int × ZS → Prop) (post : Int → ZS → Prop) (v1 : Int) (v2 : Int) (v4 : Int) (t0 : Int) (σ : ZS) : Prop :=
  C5 (v1, v2, t0, v4 + 1, σ)
def wc_X3_isRight_76 (C5 : Int × Int × Int × Int × ZS → Prop) (post : Int → ZS → Prop) (v1 : Int) (v2 : Int) (v4 : Int) (σ : ZS) : Prop :=
  wc_X3_isRight_77 C5 post v1 v2 v4 0 σ
def wbc_X3_isRight_17 (C5 : Int × Int × Int × Int × ZS → Prop) (post : Int → ZS → Prop) (C17 : Int × Int × Int × Int × Int × Int × ZS → Prop) : Int × Int × Int × Int × Int × Int × ZS → Prop := fun (v1, v2, v3, v4, v5, v6, σ) =>
  (InR v6) ∧
  (InR v1) ∧
  ((v1 ≤ v6 →
    (0 ≤ v4 ∧ v4 < 68) ∧
    ∀ σ5 : ZS, σ5 = zst σ 40 v4 v5 →
    (InR v3) ∧
    ((v3 = 0 →
      wc_X3_isRight_76 C5 post v1 v2 v4 σ5
    ) ∧
    (¬ v3 = 0 →
      (InR v5) ∧
      ((¬ v5 = 0 →
        wc_X3_isRight_76 C5 post v1 v2 v4 σ5
      ) ∧
      (v5 = 0 →
        wc_X3_isRight_77 C5 post v1 v2 v4 1 σ5
      ))
    ))
  ) ∧
  (v6 < v1 →
    (0 ≤ (v4 + 1) ∧ (v4 + 1) < 510) ∧
    wc_X3_times v5 (σ 36 (v4 + 1)) σ (fun r12 σ11 => 
    (0 ≤ v6 ∧ v6 < 256) ∧
    ∀ v5_14 : Int, v5_14 = zxor r12 (σ11 39 v6) →
    C17 (v1, v2, v3, v4, v5_14, v6 + 1, σ11))
  ))
def wbc_X3_isRight_5 (post : Int → ZS → Prop) (C5 : Int × Int × Int × Int × ZS → Prop) : Int × Int × Int × Int × ZS → Prop := fun (v1, v2, v3, v4, σ) =>
  (InR v4) ∧
  (InR v2) ∧
  ((v2 ≤ v4 →
    (v3 = 0 ∨ v3 = 1) ∧
    post v3 σ
  ) ∧
  (v4 < v2 →
    ∃ N : Nat, zfix (wbc_X3_isRight_17 C5 post) N (v1, v2, v3, v4, 0, 0, σ)
  ))
def wc_X3_isRight (a0 : Int) (a1 : Int) (σ : ZS) (post : Int → ZS → Prop) : Prop :=
  ∃ N : Nat, zfix (wbc_X3_isRight_5 post) N (a0, a1, 1, 0, σ)
/- X3_locator -/
def wbc_X3_locator_234 (C57 : Int × Int × Int × Int × Int × ZS → Prop) (post : Int → ZS → Prop) (C234 : Int × Int × Int × Int × Int × ZS → Prop) : Int × Int × Int × Int × Int × ZS → Prop := fun (v1, v2, v5, v6, v9, σ) =>
  (InR v9) ∧
  ((70 ≤ v9 →
    ∀ v2_3 : Int, v2_3 = (v5 + 1) - v2 →
    C57 (v1, v2_3, 1, v6, v5 + 1, σ)
  ) ∧
  (v9 < 70 →
    (0 ≤ v9 ∧ v9 < 70) ∧
    ∀ σ5 : ZS, σ5 = zst σ 42 v9 (σ 43 v9) →
    C234 (v1, v2, v5, v6, v9 + 1, σ5)
  ))
def wbc_X3_locator_185 (C57 : Int × Int × Int × Int × Int × ZS → Prop) (post : Int → ZS → Prop) (C185 : Int × Int × Int × Int × Int × Int × Int × Int × Int × ZS → Prop) : Int × Int × Int × Int × Int × Int × Int × Int × Int × ZS → Prop := fun (v1, v2, v3, v4, v5, v6, v7, v8, v9, σ) =>
  (InR v9) ∧
  ((70 ≤ v9 →
    (InR v8) ∧
    ((v8 = 0 →
      C57 (v1, v2, v3 + 1, v4, v5 + 1, σ)
    ) ∧
    (¬ v8 = 0 →
      ∃ N : Nat, zfix (wbc_X3_locator_234 C57 post) N (v1, v2, v5, v6, 0, σ)
    ))
  ) ∧
  (v9 < 70 →
    (0 ≤ v9 ∧ v9 < 70) ∧
    (0 ≤ (v9 - v3) ∧ (v9 - v3) < 70) ∧
    wc_X3_times v7 (σ 42 (v9 - v3)) σ (fun r8 σ7 => 
    ∀ σ9 : ZS, σ9 = zst σ7 41 v9 (zxor (σ 41 v9) r8) →
    C185 (v1, v2, v3, v4, v5, v6, v7, v8, v9 + 1, σ9))
  ))
def wbc_X3_locator_152 (C57 : Int × Int × Int × Int × Int × ZS → Prop) (post : Int → ZS → Prop) (C152 : Int × Int × Int × Int × Int × Int × Int × Int × Int × ZS → Prop) : Int × Int × Int × Int × Int × Int × Int × Int × Int × ZS → Prop := fun (v1, v2, v3, v4, v5, v6, v7, v8, v9, σ) =>
  (InR v9) ∧
  ((70 ≤ v9 →
    ∃ N : Nat, zfix (wbc_X3_locator_185 C57 post) N (v1, v2, v3, v4, v5, v6, v7, v8, v3, σ)
  ) ∧
  (v9 < 70 →
    (0 ≤ v9 ∧ v9 < 70) ∧
    ∀ σ4 : ZS, σ4 = zst σ 43 v9 (σ 41 v9) →
    C152 (v1, v2, v3, v4, v5, v6, v7, v8, v9 + 1, σ4)
  ))
def wc_X3_locator_147 (C57 : Int × Int × Int × Int × Int × ZS → Prop) (post : Int → ZS → Prop) (v1 : Int) (v2 : Int) (v3 : Int) (v4 : Int) (v5 : Int) (v6 : Int) (v7 : Int) (t0 : Int) (σ : ZS) : Prop :=
  ∃ N : Nat, zfix (wbc_X3_locator_152 C57 post) N (v1, v2, v3, v4, v5, v6, v7, t0, 0, σ)
def wbc_X3_locator_75 (C57 : Int × Int × Int × Int × Int × ZS → Prop) (post : Int → ZS → Prop) (C75 : Int × Int × Int × Int × Int × Int × Int × ZS → Prop) : Int × Int × Int × Int × Int × Int × Int × ZS → Prop := fun (v1, v2, v3, v4, v5, v6, v7, σ) =>
  (InR v7) ∧
  (InR v2) ∧
  ((v2 < v7 →
    (InR v6) ∧
    ((¬ v6 = 0 →
      wc_X3_over v6 v4 σ (fun r7 σ6 => 
      (InR (2 * v2)) ∧
      (InR v5) ∧
      ((v5 < (2 * v2) →
        wc_X3_locator_147 C57 post v1 v2 v3 v4 v5 v6 r7 0 σ6
      ) ∧
      ((2 * v2) ≤ v5 →
        wc_X3_locator_147 C57 post v1 v2 v3 v4 v5 v6 r7 1 σ6
      )))
    ) ∧
    (v6 = 0 →
      C57 (v1, v2, v3 + 1, v4, v5 + 1, σ)
    ))
  ) ∧
  (v7 ≤ v2 →
    (0 ≤ v7 ∧ v7 < 70) ∧
    (0 ≤ (v5 - v7) ∧ (v5 - v7) < 68) ∧
    wc_X3_times (σ 41 v7) (σ 40 (v5 - v7)) σ (fun r14 σ13 => 
    ∀ v6_15 : Int, v6_15 = zxor v6 r14 →
    C75 (v1, v2, v3, v4, v5, v6_15, v7 + 1, σ13))
  ))
def wbc_X3_locator_57 (post : Int → ZS → Prop) (C57 : Int × Int × Int × Int × Int × ZS → Prop) : Int × Int × Int × Int × Int × ZS → Prop := fun (v1, v2, v3, v4, v5, σ) =>
  (InR v5) ∧
  (InR v1) ∧
  ((v1 ≤ v5 →
    post v2 σ
  ) ∧
  (v5 < v1 →
    (0 ≤ v5 ∧ v5 < 68) ∧
    ∀ v6_5 : Int, v6_5 = σ 40 v5 →
    ∃ N : Nat, zfix (wbc_X3_locator_75 C57 post) N (v1, v2, v3, v4, v5, v6_5, 1, σ)
  ))
def wc_X3_locator_40 (C2 : Int × Int × ZS → Prop) (post : Int → ZS → Prop) (v1 : Int) (v2 : Int) (t0 : Int) (t1 : Int) (σ : ZS) : Prop :=
  (0 ≤ t1 ∧ t1 < 70) ∧
  ∀ σ2 : ZS, σ2 = zst σ 42 t1 t0 →
  C2 (v1, v2 + 1, σ2)
def wc_X3_locator_25 (C2 : Int × Int × ZS → Prop) (post : Int → ZS → Prop) (v1 : Int) (v2 : Int) (t0 : Int) (t1 : Int) (σ : ZS) : Prop :=
  (0 ≤ t1 ∧ t1 < 70) ∧
  ∀ σ2 : ZS, σ2 = zst σ 41 t1 t0 →
  (InR v2) ∧
  ((¬ v2 = 0 →
    wc_X3_locator_40 C2 post v1 v2 0 v2 σ2
  ) ∧
  (v2 = 0 →
    wc_X3_locator_40 C2 post v1 v2 1 v2 σ2
  ))
def wbc_X3_locator_2 (post : Int → ZS → Prop) (C2 : Int × Int × ZS → Prop) : Int × Int × ZS → Prop := fun (v1, v2, σ) =>
  (InR v2) ∧
  ((70 ≤ v2 →
    ∃ N : Nat, zfix (wbc_X3_locator_57 post) N (v1, 0, 1, 1, 0, σ)
  ) ∧
  (v2 < 70 →
    ((¬ v2 = 0 →
      wc_X3_locator_25 C2 post v1 v2 0 v2 σ
    ) ∧
    (v2 = 0 →
      wc_X3_locator_25 C2 post v1 v2 1 v2 σ
    ))
  ))
def wc_X3_locator (a0 : Int) (σ : ZS) (post : Int → ZS → Prop) : Prop :=
  ∃ N : Nat, zfix (wbc_X3_locator_2 post) N (a0, 0, σ)
/- X3_error -/
def wbc_X3_error_131 (post : Int → ZS → Prop) (C131 : Int × Int × Int × Int × Int × ZS → Prop) : Int × Int × Int × Int × Int × ZS → Prop := fun (v1, v2, v4, v5, v6, σ) =>
  (InR v6) ∧
  (InR v2) ∧
  ((v2 < v6 →
    (InR v5) ∧
    ((¬ v5 = 0 →
      wc_X3_over v4 v5 σ (fun r7 σ6 => 
      post r7 σ6)
    ) ∧
    (v5 = 0 →
      post 0 σ
    ))
  ) ∧
  (v6 ≤ v2 →
    (0 ≤ v6 ∧ v6 < 70) ∧
    (InR v1) ∧
    (0 ≤ v1) ∧
    (InR ((255 - (v1 % 255)) * (v6 - 1))) ∧
    (0 ≤ ((255 - (v1 % 255)) * (v6 - 1))) ∧
    (0 ≤ (((255 - (v1 % 255)) * (v6 - 1)) % 255) ∧ (((255 - (v1 % 255)) * (v6 - 1)) % 255) < 510) ∧
    wc_X3_times (σ 41 v6) (σ 36 (((255 - (v1 % 255)) * (v6 - 1)) % 255)) σ (fun r15 σ14 => 
    ∀ v5_16 : Int, v5_16 = zxor v5 r15 →
    C131 (v1, v2, v4, v5_16, v6 + 2, σ14))
  ))
def wbc_X3_error_100 (post : Int → ZS → Prop) (C100 : Int × Int × Int × Int × Int × Int × ZS → Prop) : Int × Int × Int × Int × Int × Int × ZS → Prop := fun (v1, v2, v3, v4, v5, v6, σ) =>
  (InR v6) ∧
  ((v6 < 0 →
    ∃ N : Nat, zfix (wbc_X3_error_131 post) N (v1, v2, v4, v5, 1, σ)
  ) ∧
  (0 ≤ v6 →
    wc_X3_times v4 v3 σ (fun r4 σ3 => 
    (0 ≤ v6 ∧ v6 < 70) ∧
    ∀ v4_6 : Int, v4_6 = zxor r4 (σ3 44 v6) →
    C100 (v1, v2, v3, v4_6, v5, v6 + (-1), σ3))
  ))
def wbc_X3_error_45 (C28 : Int × Int × Int × Int × Int × Int × ZS → Prop) (post : Int → ZS → Prop) (C45 : Int × Int × Int × Int × Int × Int × Int × ZS → Prop) : Int × Int × Int × Int × Int × Int × Int × ZS → Prop := fun (v1, v2, v3, v4, v5, v6, v7, σ) =>
  (InR v7) ∧
  (InR v6) ∧
  ((v6 < v7 →
    C28 (v1, v2, v3, v4, v5, v6 + 1, σ)
  ) ∧
  (v7 ≤ v6 →
    (0 ≤ v6 ∧ v6 < 70) ∧
    (0 ≤ (v6 - v7) ∧ (v6 - v7) < 68) ∧
    (0 ≤ v7 ∧ v7 < 70) ∧
    wc_X3_times (σ 40 (v6 - v7)) (σ 41 v7) σ (fun r8 σ7 => 
    ∀ σ9 : ZS, σ9 = zst σ7 44 v6 (zxor (σ 44 v6) r8) →
    C45 (v1, v2, v3, v4, v5, v6, v7 + 1, σ9))
  ))
def wbc_X3_error_28 (post : Int → ZS → Prop) (C28 : Int × Int × Int × Int × Int × Int × ZS → Prop) : Int × Int × Int × Int × Int × Int × ZS → Prop := fun (v1, v2, v3, v4, v5, v6, σ) =>
  (InR v6) ∧
  (InR v2) ∧
  ((v2 ≤ v6 →
    ∃ N : Nat, zfix (wbc_X3_error_100 post) N (v1, v2, v3, v4, v5, v2 - 1, σ)
  ) ∧
  (v6 < v2 →
    (0 ≤ v6 ∧ v6 < 70) ∧
    ∀ σ5 : ZS, σ5 = zst σ 44 v6 0 →
    ∃ N : Nat, zfix (wbc_X3_error_45 C28 post) N (v1, v2, v3, v4, v5, v6, 0, σ5)
  ))
def wc_X3_error (a0 : Int) (a1 : Int) (σ : ZS) (post : Int → ZS → Prop) : Prop :=
  (InR a0) ∧
  (0 ≤ a0) ∧
  (InR (255 - (a0 % 255))) ∧
  (0 ≤ (255 - (a0 % 255))) ∧
  (0 ≤ ((255 - (a0 % 255)) % 255) ∧ ((255 - (a0 % 255)) % 255) < 510) ∧
  ∀ v3_6 : Int, v3_6 = σ 36 ((255 - (a0 % 255)) % 255) →
  ∃ N : Nat, zfix (wbc_X3_error_28 post) N (a0, a1, v3_6, 0, 0, 0, σ)
/- X3_mend -/
def wbc_X3_mend_52 (C32 : Int × Int × Int × Int × Int × ZS → Prop) (post : Int → ZS → Prop) (C52 : Int × Int × Int × Int × Int × Int × Int × Int × ZS → Prop) : Int × Int × Int × Int × Int × Int × Int × Int × ZS → Prop := fun (v1, v2, v3, v4, v5, v6, v7, v8, σ) =>
  (InR v8) ∧
  ((v8 < 0 →
    (InR v7) ∧
    ((v7 = 0 →
      (0 ≤ v5 ∧ v5 < 256) ∧
      wc_X3_error v6 v3 σ (fun r7 σ6 => 
      ∀ σ8 : ZS, σ8 = zst σ6 39 v5 (zxor (σ 39 v5) r7) →
      C32 (v1, v2, v3, v4 + 1, v5 + 1, σ8))
    ) ∧
    (¬ v7 = 0 →
      C32 (v1, v2, v3, v4, v5 + 1, σ)
    ))
  ) ∧
  (0 ≤ v8 →
    (InR v6) ∧
    (0 ≤ v6) ∧
    (InR (255 - (v6 % 255))) ∧
    (0 ≤ (255 - (v6 % 255))) ∧
    (0 ≤ ((255 - (v6 % 255)) % 255) ∧ ((255 - (v6 % 255)) % 255) < 510) ∧
    wc_X3_times v7 (σ 36 ((255 - (v6 % 255)) % 255)) σ (fun r15 σ14 => 
    (0 ≤ v8 ∧ v8 < 70) ∧
    ∀ v7_17 : Int, v7_17 = zxor r15 (σ14 41 v8) →
    C52 (v1, v2, v3, v4, v5, v6, v7_17, v8 + (-1), σ14))
  ))
def wbc_X3_mend_32 (post : Int → ZS → Prop) (C32 : Int × Int × Int × Int × Int × ZS → Prop) : Int × Int × Int × Int × Int × ZS → Prop := fun (v1, v2, v3, v4, v5, σ) =>
  (InR v5) ∧
  (InR v1) ∧
  ((v1 ≤ v5 →
    (InR v4) ∧
    (InR v3) ∧
    ((¬ v4 = v3 →
      post (-1) σ
    ) ∧
    (v4 = v3 →
      wc_X3_isRight v1 v2 σ (fun r8 σ7 => r8 = 0 ∨ r8 = 1 →
      ((r8 = 0 →
        post (-1) σ7
      ) ∧
      (¬ r8 = 0 →
        post v3 σ7
      )))
    ))
  ) ∧
  (v5 < v1 →
    ∀ v6_10 : Int, v6_10 = (v1 - 1) - v5 →
    ∃ N : Nat, zfix (wbc_X3_mend_52 C32 post) N (v1, v2, v3, v4, v5, v6_10, 0, v3, σ)
  ))
def wc_X3_mend (a0 : Int) (a1 : Int) (σ : ZS) (post : Int → ZS → Prop) : Prop :=
  wc_X3_isRight a0 a1 σ (fun r2 σ1 => r2 = 0 ∨ r2 = 1 →
  ((r2 = 0 →
    wc_X3_locator a1 σ1 (fun r5 σ4 => 
    (InR a1) ∧
    (0 ≤ a1) ∧
    (InR r5) ∧
    (InR (a1 / 2)) ∧
    ((r5 ≤ (a1 / 2) →
      ∃ N : Nat, zfix (wbc_X3_mend_32 post) N (a0, a1, r5, 0, 0, σ4)
    ) ∧
    ((a1 / 2) < r5 →
      post (-1) σ4
    )))
  ) ∧
  (¬ r2 = 0 →
    post 0 σ1
  )))
/- X4_begin -/
def wc_X4_begin (o : Nat) (a0 : Int) (σ : ZS) (post : ZS → Prop) : Prop :=
  (isSt o) ∧
  ∀ σ1 : ZS, σ1 = zst σ o 2 a0 →
  ∀ σ2 : ZS, σ2 = zst σ1 o 3 0 →
  ∀ σ3 : ZS, σ3 = zst σ2 o 4 0 →
  post σ3
/- X4_left -/
def wc_X4_left (σ : ZS) (post : Int → ZS → Prop) : Prop :=
  post ((σ 45 2) - (σ 45 3)) σ
/- X4_tell -/
def wc_X4_tell (a0 : Int) (σ : ZS) (post : ZS → Prop) : Prop :=
  ∀ σ1 : ZS, σ1 = zst σ 45 4 ((σ 45 4) + 1) →
  (0 ≤ (σ 45 4) ∧ (σ 45 4) < 3200) ∧
  ∀ σ3 : ZS, σ3 = zst σ1 47 (σ 45 4) (zi2b a0) →
  post σ3
/- X4_put -/
def wc_X4_put (a0 : Int) (σ : ZS) (post : ZS → Prop) : Prop :=
  ∀ σ1 : ZS, σ1 = zst σ 48 3 ((σ 48 3) + 1) →
  (0 ≤ (σ 48 3) ∧ (σ 48 3) < 2178) ∧
  ∀ σ3 : ZS, σ3 = zst σ1 49 (σ 48 3) a0 →
  post σ3
/- X4_pad -/
def wc_X4_pad (a0 : Int) (σ : ZS) (post : Int → ZS → Prop) : Prop :=
  (InR (149 * a0)) ∧
  (0 ≤ (149 * a0)) ∧
  ∀ v1_3 : Int, v1_3 = 130 + ((149 * a0) % 253) →
  (InR v1_3) ∧
  ((v1_3 ≤ 254 →
    post v1_3 σ
  ) ∧
  (254 < v1_3 →
    post (v1_3 - 254) σ
  ))
/- X4_pads -/
def wbc_X4_pads_0 (post : ZS → Prop) (C0 : ZS → Prop) : ZS → Prop := fun (σ) =>
  (InR (σ 48 3)) ∧
  (InR (σ 48 2)) ∧
  (((σ 48 2) ≤ (σ 48 3) →
    post σ
  ) ∧
  ((σ 48 3) < (σ 48 2) →
    wc_X4_pad ((σ 48 3) + 1) σ (fun r5 σ4 => 
    wc_X4_put r5 σ4 (fun σ6 => 
    C0 (σ6)))
  ))
def wc_X4_pads (σ : ZS) (post : ZS → Prop) : Prop :=
  ∃ N : Nat, zfix (wbc_X4_pads_0 post) N (σ)
/- X9_begin -/
def wc_X9_begin (σ : ZS) (post : ZS → Prop) : Prop :=
  post σ
/- X9_end -/
def wc_X9_end (σ : ZS) (post : ZS → Prop) : Prop :=
  post σ
/- X9_take -/
def wc_X9_take_57 (post : ZS → Prop) (t0 : Int) (σ : ZS) : Prop :=
  wc_X4_tell t0 σ (fun σ1 => 
  post σ1)
def wc_X9_take (a1 : Int) (a2 : Int) (σ : ZS) (post : ZS → Prop) : Prop :=
  (InR a1) ∧
  ((¬ a1 = 0 →
    ((¬ a1 = 1 →
      ((¬ a1 = 2 →
        ((¬ a1 = 3 →
          ((14 ≤ a1 →
            wc_X9_take_57 post (a1 + 51) σ
          ) ∧
          (a1 < 14 →
            wc_X9_take_57 post (a1 + 44) σ
          ))
        ) ∧
        (a1 = 3 →
          wc_X9_take_57 post 32 σ
        ))
      ) ∧
      (a1 = 2 →
        wc_X9_take_57 post 62 σ
      ))
    ) ∧
    (a1 = 1 →
      wc_X9_take_57 post 42 σ
    ))
  ) ∧
  (a1 = 0 →
    wc_X9_take_57 post 13 σ
  ))
/- X9_valueOf -/
def wc_X9_valueOf_59 (post : Int → ZS → Prop) (v0 : Int) (σ : ZS) : Prop :=
  (InR v0) ∧
  ((v0 < 65 →
    post (-1) σ
  ) ∧
  (65 ≤ v0 →
    ((90 < v0 →
      post (-1) σ
    ) ∧
    (v0 ≤ 90 →
      post (v0 - 51) σ
    ))
  ))
def wc_X9_valueOf (a0 : Int) (σ : ZS) (post : Int → ZS → Prop) : Prop :=
  (InR a0) ∧
  ((¬ a0 = 13 →
    ((¬ a0 = 42 →
      ((¬ a0 = 62 →
        ((¬ a0 = 32 →
          ((a0 < 48 →
            wc_X9_valueOf_59 post a0 σ
          ) ∧
          (48 ≤ a0 →
            ((57 < a0 →
              wc_X9_valueOf_59 post a0 σ
            ) ∧
            (a0 ≤ 57 →
              post (a0 - 44) σ
            ))
          ))
        ) ∧
        (a0 = 32 →
          post 3 σ
        ))
      ) ∧
      (a0 = 62 →
        post 2 σ
      ))
    ) ∧
    (a0 = 42 →
      post 1 σ
    ))
  ) ∧
  (a0 = 13 →
    post 0 σ
  ))
/- X7_add -/
def wc_X7_add (o : Nat) (a0 : Int) (σ : ZS) (post : ZS → Prop) : Prop :=
  (isTh o) ∧
  ∀ σ1 : ZS, σ1 = zst σ o 1 ((σ o 1) + 1) →
  (0 ≤ (σ o 1) ∧ (σ o 1) < 12804) ∧
  ∀ σ3 : ZS, σ3 = zst σ1 (o + 1) (σ o 1) a0 →
  post σ3
/- X9_values -/
def wc_X9_values (a0 : Int) (σ : ZS) (post : ZS → Prop) : Prop :=
  wc_X9_valueOf a0 σ (fun r2 σ1 => 
  wc_X7_add 59 r2 σ1 (fun σ3 => 
  post σ3))
/- X9_prepare -/
def wc_X9_prepare_47 (C11 : Int × ZS → Prop) (post : ZS → Prop) (v3 : Int) (t0 : Int) (t1 : Int) (σ : ZS) : Prop :=
  (0 ≤ t1 ∧ t1 < 3201) ∧
  ∀ σ2 : ZS, σ2 = zst σ 61 t1 t0 →
  C11 (v3 + (-1), σ2)
def wbc_X9_prepare_11 (post : ZS → Prop) (C11 : Int × ZS → Prop) : Int × ZS → Prop := fun (v3, σ) =>
  (InR v3) ∧
  ((v3 < 0 →
    post σ
  ) ∧
  (0 ≤ v3 →
    (0 ≤ v3 ∧ v3 < 3200) ∧
    wc_X9_valueOf ((σ 66 v3) % 256) σ (fun r5 σ4 => 
    (InR r5) ∧
    ((0 ≤ r5 →
      (0 ≤ (v3 + 1) ∧ (v3 + 1) < 3201) ∧
      wc_X9_prepare_47 C11 post v3 ((σ4 61 (v3 + 1)) + 1) v3 σ4
    ) ∧
    (r5 < 0 →
      wc_X9_prepare_47 C11 post v3 0 v3 σ4
    )))
  ))
def wc_X9_prepare (a1 : Int) (σ : ZS) (post : ZS → Prop) : Prop :=
  (0 ≤ a1 ∧ a1 < 3201) ∧
  ∀ σ2 : ZS, σ2 = zst σ 61 a1 0 →
  ∃ N : Nat, zfix (wbc_X9_prepare_11 post) N (a1 - 1, σ2)
/- X9_open -/
def wc_X9_open_26 (post : Int → ZS → Prop) (σ : ZS) : Prop :=
  post 1000000 σ
def wc_X9_open (a0 : Int) (a1 : Int) (σ : ZS) (post : Int → ZS → Prop) : Prop :=
  (InR a1) ∧
  (0 ≤ a1) ∧
  (InR (a1 % 3)) ∧
  ((¬ (a1 % 3) = 0 →
    wc_X9_open_26 post σ
  ) ∧
  ((a1 % 3) = 0 →
    (0 ≤ a0 ∧ a0 < 3201) ∧
    (InR (σ 61 a0)) ∧
    (((σ 61 a0) < a1 →
      wc_X9_open_26 post σ
    ) ∧
    (a1 ≤ (σ 61 a0) →
      post (1 + ((a1 / 3) * 2)) σ
    ))
  ))
/- X9_closed -/
def wc_X9_closed (a0 : Int) (a1 : Int) (σ : ZS) (post : Int → ZS → Prop) : Prop :=
  wc_X9_open a0 a1 σ (fun r2 σ1 => 
  post (r2 + 1) σ1)
/- X8_begin -/
def wc_X8_begin (o : Nat) (σ : ZS) (post : ZS → Prop) : Prop :=
  (isSe o) ∧
  ∀ σ1 : ZS, σ1 = zst σ o 4 (-1) →
  ∀ σ2 : ZS, σ2 = zst σ1 o 5 0 →
  post σ2
/- X8_shift -/
def wc_X8_shift_140 (o : Nat) (post : ZS → Prop) (t0 : Int) (σ : ZS) : Prop :=
  wc_X7_add o t0 σ (fun σ1 => 
  post σ1)
def wc_X8_shift_119 (o : Nat) (post : ZS → Prop) (v1 : Int) (σ : ZS) : Prop :=
  wc_X8_shift_140 o post (v1 - 96) σ
def wc_X8_shift_99 (o : Nat) (post : ZS → Prop) (t0 : Int) (σ : ZS) : Prop :=
  wc_X7_add o t0 σ (fun σ1 => 
  post σ1)
def wc_X8_shift_45 (o : Nat) (post : ZS → Prop) (v1 : Int) (t0 : Int) (σ : ZS) : Prop :=
  wc_X7_add o t0 σ (fun σ1 => 
  (InR t0) ∧
  ((¬ t0 = 0 →
    ((¬ t0 = 1 →
      (InR (σ1 o 3)) ∧
      (((σ1 o 3) = 0 →
        wc_X8_shift_119 o post v1 σ1
      ) ∧
      (¬ (σ1 o 3) = 0 →
        (InR v1) ∧
        ((v1 < 123 →
          ((¬ v1 = 96 →
            wc_X8_shift_140 o post (v1 - 64) σ1
          ) ∧
          (v1 = 96 →
            wc_X8_shift_140 o post 0 σ1
          ))
        ) ∧
        (123 ≤ v1 →
          wc_X8_shift_119 o post v1 σ1
        ))
      ))
    ) ∧
    (t0 = 1 →
      (InR v1) ∧
      ((48 ≤ v1 →
        ((65 ≤ v1 →
          wc_X8_shift_99 o post (v1 - 69) σ1
        ) ∧
        (v1 < 65 →
          wc_X8_shift_99 o post (v1 - 43) σ1
        ))
      ) ∧
      (v1 < 48 →
        wc_X8_shift_99 o post (v1 - 33) σ1
      ))
    ))
  ) ∧
  (t0 = 0 →
    wc_X7_add o v1 σ1 (fun σ13 => 
    post σ13)
  )))
def wc_X8_shift_44 (o : Nat) (post : ZS → Prop) (v1 : Int) (σ : ZS) : Prop :=
  wc_X8_shift_45 o post v1 2 σ
def wc_X8_shift_28 (o : Nat) (post : ZS → Prop) (v1 : Int) (σ : ZS) : Prop :=
  (InR v1) ∧
  ((v1 < 91 →
    wc_X8_shift_44 o post v1 σ
  ) ∧
  (91 ≤ v1 →
    ((95 < v1 →
      wc_X8_shift_44 o post v1 σ
    ) ∧
    (v1 ≤ 95 →
      wc_X8_shift_45 o post v1 1 σ
    ))
  ))
def wc_X8_shift (o : Nat) (a0 : Int) (σ : ZS) (post : ZS → Prop) : Prop :=
  (isSe o) ∧
  (InR a0) ∧
  ((32 ≤ a0 →
    ((a0 < 48 →
      wc_X8_shift_45 o post a0 1 σ
    ) ∧
    (48 ≤ a0 →
      ((a0 < 58 →
        wc_X8_shift_28 o post a0 σ
      ) ∧
      (58 ≤ a0 →
        ((a0 ≤ 64 →
          wc_X8_shift_45 o post a0 1 σ
        ) ∧
        (64 < a0 →
          wc_X8_shift_28 o post a0 σ
        ))
      ))
    ))
  ) ∧
  (a0 < 32 →
    wc_X8_shift_45 o post a0 0 σ
  ))
/- X8_values -/
def wc_X8_values_125 (o : Nat) (post : ZS → Prop) (t0 : Int) (t1 : Int) (σ : ZS) : Prop :=
  wc_X7_add o (t1 - t0) σ (fun σ1 => 
  post σ1)
def wc_X8_values_105 (o : Nat) (post : ZS → Prop) (v2 : Int) (v3 : Int) (σ : ZS) : Prop :=
  (InR v3) ∧
  ((v3 = 0 →
    wc_X8_shift o v2 σ (fun σ3 => 
    post σ3)
  ) ∧
  (¬ v3 = 0 →
    (InR (σ o 3)) ∧
    (((σ o 3) = 0 →
      wc_X8_values_125 o post 51 v2 σ
    ) ∧
    (¬ (σ o 3) = 0 →
      wc_X8_values_125 o post 83 v2 σ
    ))
  ))
def wc_X8_values_67 (o : Nat) (post : ZS → Prop) (v2 : Int) (t0 : Int) (σ : ZS) : Prop :=
  (InR v2) ∧
  ((¬ v2 = 32 →
    ((v2 < 48 →
      wc_X8_values_105 o post v2 t0 σ
    ) ∧
    (48 ≤ v2 →
      ((57 < v2 →
        wc_X8_values_105 o post v2 t0 σ
      ) ∧
      (v2 ≤ 57 →
        wc_X7_add o (v2 - 44) σ (fun σ5 => 
        post σ5)
      ))
    ))
  ) ∧
  (v2 = 32 →
    wc_X7_add o 3 σ (fun σ6 => 
    post σ6)
  ))
def wc_X8_values_66 (o : Nat) (post : ZS → Prop) (v2 : Int) (σ : ZS) : Prop :=
  wc_X8_values_67 o post v2 0 σ
def wc_X8_values_18 (o : Nat) (post : ZS → Prop) (v1 : Int) (σ : ZS) : Prop :=
  ∀ v2_1 : Int, v2_1 = v1 % 128 →
  (InR (σ o 3)) ∧
  (((σ o 3) = 0 →
    (InR v2_1) ∧
    ((v2_1 < 65 →
      wc_X8_values_66 o post v2_1 σ
    ) ∧
    (65 ≤ v2_1 →
      ((90 < v2_1 →
        wc_X8_values_66 o post v2_1 σ
      ) ∧
      (v2_1 ≤ 90 →
        wc_X8_values_67 o post v2_1 1 σ
      ))
    ))
  ) ∧
  (¬ (σ o 3) = 0 →
    (InR v2_1) ∧
    ((v2_1 < 97 →
      wc_X8_values_67 o post v2_1 0 σ
    ) ∧
    (97 ≤ v2_1 →
      ((122 < v2_1 →
        wc_X8_values_67 o post v2_1 0 σ
      ) ∧
      (v2_1 ≤ 122 →
        wc_X8_values_67 o post v2_1 1 σ
      ))
    ))
  ))
def wc_X8_values (o : Nat) (a0 : Int) (σ : ZS) (post : ZS → Prop) : Prop :=
  (isSe o) ∧
  (InR a0) ∧
  ((a0 < 128 →
    wc_X8_values_18 o post a0 σ
  ) ∧
  (128 ≤ a0 →
    wc_X7_add o 1 σ (fun σ3 => 
    wc_X7_add o 30 σ3 (fun σ4 => 
    wc_X8_values_18 o post a0 σ4))
  ))
/- X8_size -/
def wc_X8_size_72 (o : Nat) (post : Int → ZS → Prop) (v1 : Int) (t0 : Int) (σ : ZS) : Prop :=
  (InR v1) ∧
  ((v1 < 128 →
    post (t0 + 0) σ
  ) ∧
  (128 ≤ v1 →
    post (t0 + 2) σ
  ))
def wc_X8_size_62 (o : Nat) (post : Int → ZS → Prop) (v1 : Int) (t0 : Int) (σ : ZS) : Prop :=
  (InR t0) ∧
  ((t0 = 0 →
    wc_X8_size_72 o post v1 2 σ
  ) ∧
  (¬ t0 = 0 →
    wc_X8_size_72 o post v1 1 σ
  ))
def wc_X8_size_61 (o : Nat) (post : Int → ZS → Prop) (v1 : Int) (σ : ZS) : Prop :=
  wc_X8_size_62 o post v1 0 σ
def wc_X8_size_23 (o : Nat) (post : Int → ZS → Prop) (v1 : Int) (v2 : Int) (σ : ZS) : Prop :=
  (InR (σ o 3)) ∧
  (((σ o 3) = 0 →
    (InR v2) ∧
    ((v2 < 65 →
      wc_X8_size_61 o post v1 σ
    ) ∧
    (65 ≤ v2 →
      ((90 < v2 →
        wc_X8_size_61 o post v1 σ
      ) ∧
      (v2 ≤ 90 →
        wc_X8_size_62 o post v1 1 σ
      ))
    ))
  ) ∧
  (¬ (σ o 3) = 0 →
    (InR v2) ∧
    ((v2 < 97 →
      wc_X8_size_61 o post v1 σ
    ) ∧
    (97 ≤ v2 →
      ((122 < v2 →
        wc_X8_size_61 o post v1 σ
      ) ∧
      (v2 ≤ 122 →
        wc_X8_size_62 o post v1 1 σ
      ))
    ))
  ))
def wc_X8_size (o : Nat) (a0 : Int) (σ : ZS) (post : Int → ZS → Prop) : Prop :=
  (isSe o) ∧
  ∀ v2_1 : Int, v2_1 = a0 % 128 →
  (InR v2_1) ∧
  ((v2_1 = 32 →
    wc_X8_size_62 o post a0 1 σ
  ) ∧
  (¬ v2_1 = 32 →
    ((v2_1 < 48 →
      wc_X8_size_23 o post a0 v2_1 σ
    ) ∧
    (48 ≤ v2_1 →
      ((v2_1 ≤ 57 →
        wc_X8_size_62 o post a0 1 σ
      ) ∧
      (57 < v2_1 →
        wc_X8_size_23 o post a0 v2_1 σ
      ))
    ))
  ))
/- X8_prepare -/
def wbc_X8_prepare_9 (o : Nat) (post : ZS → Prop) (C9 : Int × Int × ZS → Prop) : Int × Int × ZS → Prop := fun (v2, v3, σ) =>
  (InR v3) ∧
  (InR v2) ∧
  ((v2 ≤ v3 →
    post σ
  ) ∧
  (v3 < v2 →
    (0 ≤ v3 ∧ v3 < 3201) ∧
    (0 ≤ v3 ∧ v3 < 3200) ∧
    wc_X8_size o ((σ 66 v3) % 256) σ (fun r7 σ6 => 
    (0 ≤ (v3 + 1) ∧ (v3 + 1) < 3201) ∧
    ∀ σ9 : ZS, σ9 = zst σ6 (o + 2) (v3 + 1) ((σ (o + 2) v3) + r7) →
    C9 (v2, v3 + 1, σ9))
  ))
def wc_X8_prepare (o : Nat) (a1 : Int) (σ : ZS) (post : ZS → Prop) : Prop :=
  (isSe o) ∧
  ∀ σ1 : ZS, σ1 = zst σ (o + 2) 0 0 →
  ∃ N : Nat, zfix (wbc_X8_prepare_9 o post) N (a1, 0, σ1)
/- X8_open -/
def wc_X8_open (o : Nat) (a0 : Int) (a1 : Int) (σ : ZS) (post : Int → ZS → Prop) : Prop :=
  (isSe o) ∧
  (0 ≤ (a0 + a1) ∧ (a0 + a1) < 3201) ∧
  (0 ≤ a0 ∧ a0 < 3201) ∧
  ∀ v3_3 : Int, v3_3 = (σ (o + 2) (a0 + a1)) - (σ (o + 2) a0) →
  (InR v3_3) ∧
  (0 ≤ v3_3) ∧
  (InR (v3_3 % 3)) ∧
  ((¬ (v3_3 % 3) = 1 →
    (InR (v3_3 + 2)) ∧
    (0 ≤ (v3_3 + 2)) ∧
    post (1 + (((v3_3 + 2) / 3) * 2)) σ
  ) ∧
  ((v3_3 % 3) = 1 →
    post 1000000 σ
  ))
/- X8_closed -/
def wc_X8_closed (o : Nat) (a0 : Int) (a1 : Int) (σ : ZS) (post : Int → ZS → Prop) : Prop :=
  (isSe o) ∧
  wc_X8_open o a0 a1 σ (fun r2 σ1 => 
  post (r2 + 1) σ1)
/- X8_tells -/
def wc_X8_tells (o : Nat) (a1 : Int) (σ : ZS) (post : ZS → Prop) : Prop :=
  (isSe o) ∧
  wc_X4_tell (a1 + (σ o 5)) σ (fun σ1 => 
  ∀ σ2 : ZS, σ2 = zst σ1 o 5 0 →
  post σ2)
/- X7_leaves -/
def wc_X7_leaves (o : Nat) (σ : ZS) (post : Int → ZS → Prop) : Prop :=
  (isTh o) ∧
  post 1 σ
/- X7_write -/
def wv_Th_values (o : Nat) (a0 : Int) (σ : ZS) (post : ZS → Prop) : Prop :=
  (isSe o → wc_X8_values o a0 σ post) ∧
  (o = 59 → wc_X9_values a0 σ post)
def wbc_X7_write_53 (o : Nat) (post : ZS → Prop) (C53 : Int × Int × ZS → Prop) : Int × Int × ZS → Prop := fun (v5, v6, σ) =>
  (InR v6) ∧
  (InR (σ o 1)) ∧
  (((σ o 1) ≤ v6 →
    (InR v5) ∧
    ((v5 = 0 →
      post σ
    ) ∧
    (¬ v5 = 0 →
      wc_X4_put 254 σ (fun σ6 => 
      post σ6)
    ))
  ) ∧
  (v6 < (σ o 1) →
    (0 ≤ v6 ∧ v6 < 12804) ∧
    (0 ≤ (v6 + 1) ∧ (v6 + 1) < 12804) ∧
    (0 ≤ (v6 + 2) ∧ (v6 + 2) < 12804) ∧
    ∀ v7_10 : Int, v7_10 = (((1600 * (σ (o + 1) v6)) + (40 * (σ (o + 1) (v6 + 1)))) + (σ (o + 1) (v6 + 2))) + 1 →
    (InR v7_10) ∧
    (0 ≤ v7_10) ∧
    wc_X4_put (v7_10 / 256) σ (fun σ13 => 
    wc_X4_put (v7_10 % 256) σ13 (fun σ14 => 
    C53 (v5, v6 + 3, σ14)))
  ))
def wc_X7_write_50 (o : Nat) (post : ZS → Prop) (v5 : Int) (σ : ZS) : Prop :=
  ∃ N : Nat, zfix (wbc_X7_write_53 o post) N (v5, 0, σ)
def wbc_X7_write_8 (o : Nat) (post : ZS → Prop) (C8 : Int × Int × Int × Int × ZS → Prop) : Int × Int × Int × Int × ZS → Prop := fun (v3, v4, v5, v6, σ) =>
  (InR v6) ∧
  (InR (v3 + v4)) ∧
  (((v3 + v4) ≤ v6 →
    (InR (σ o 1)) ∧
    (0 ≤ (σ o 1)) ∧
    (InR ((σ o 1) % 3)) ∧
    ((¬ ((σ o 1) % 3) = 2 →
      wc_X7_write_50 o post v5 σ
    ) ∧
    (((σ o 1) % 3) = 2 →
      wc_X7_add o 0 σ (fun σ8 => 
      wc_X7_write_50 o post v5 σ8)
    ))
  ) ∧
  (v6 < (v3 + v4) →
    (0 ≤ v6 ∧ v6 < 3200) ∧
    wv_Th_values o ((σ 66 v6) % 256) σ (fun σ10 => 
    C8 (v3, v4, v5, v6 + 1, σ10))
  ))
def wc_X7_write (o : Nat) (a2 : Int) (a3 : Int) (a4 : Int) (σ : ZS) (post : ZS → Prop) : Prop :=
  (isTh o) ∧
  ∀ σ1 : ZS, σ1 = zst σ o 1 0 →
  ∃ N : Nat, zfix (wbc_X7_write_8 o post) N (a2, a3, a4, a2, σ1)
/- X10_prepare -/
def wc_X10_prepare_50 (C11 : Int × ZS → Prop) (post : ZS → Prop) (v3 : Int) (t0 : Int) (t1 : Int) (σ : ZS) : Prop :=
  (0 ≤ t1 ∧ t1 < 3201) ∧
  ∀ σ2 : ZS, σ2 = zst σ 63 t1 t0 →
  C11 (v3 + (-1), σ2)
def wc_X10_prepare_49 (C11 : Int × ZS → Prop) (post : ZS → Prop) (v3 : Int) (t0 : Int) (σ : ZS) : Prop :=
  wc_X10_prepare_50 C11 post v3 0 t0 σ
def wbc_X10_prepare_11 (post : ZS → Prop) (C11 : Int × ZS → Prop) : Int × ZS → Prop := fun (v3, σ) =>
  (InR v3) ∧
  ((v3 < 0 →
    post σ
  ) ∧
  (0 ≤ v3 →
    (0 ≤ v3 ∧ v3 < 3200) ∧
    (InR (σ 66 v3)) ∧
    (((σ 66 v3) < 32 →
      wc_X10_prepare_49 C11 post v3 v3 σ
    ) ∧
    (32 ≤ (σ 66 v3) →
      ((94 < (σ 66 v3) →
        wc_X10_prepare_49 C11 post v3 v3 σ
      ) ∧
      ((σ 66 v3) ≤ 94 →
        (0 ≤ (v3 + 1) ∧ (v3 + 1) < 3201) ∧
        wc_X10_prepare_50 C11 post v3 ((σ 63 (v3 + 1)) + 1) v3 σ
      ))
    ))
  ))
def wc_X10_prepare (a1 : Int) (σ : ZS) (post : ZS → Prop) : Prop :=
  (0 ≤ a1 ∧ a1 < 3201) ∧
  ∀ σ2 : ZS, σ2 = zst σ 63 a1 0 →
  ∃ N : Nat, zfix (wbc_X10_prepare_11 post) N (a1 - 1, σ2)
/- X10_open -/
def wc_X10_open_26 (post : Int → ZS → Prop) (σ : ZS) : Prop :=
  post 1000000 σ
def wc_X10_open (a0 : Int) (a1 : Int) (σ : ZS) (post : Int → ZS → Prop) : Prop :=
  (InR a1) ∧
  (0 ≤ a1) ∧
  (InR (a1 % 4)) ∧
  ((¬ (a1 % 4) = 0 →
    wc_X10_open_26 post σ
  ) ∧
  ((a1 % 4) = 0 →
    (0 ≤ a0 ∧ a0 < 3201) ∧
    (InR (σ 63 a0)) ∧
    (((σ 63 a0) < a1 →
      wc_X10_open_26 post σ
    ) ∧
    (a1 ≤ (σ 63 a0) →
      post (1 + ((a1 / 4) * 3)) σ
    ))
  ))
/- X10_closed -/
def wc_X10_closed (a0 : Int) (a1 : Int) (σ : ZS) (post : Int → ZS → Prop) : Prop :=
  (0 ≤ a0 ∧ a0 < 3201) ∧
  (InR a1) ∧
  (InR (σ 63 a0)) ∧
  (((σ 63 a0) < a1 →
    post 1000000 σ
  ) ∧
  (a1 ≤ (σ 63 a0) →
    (InR ((6 * (a1 + 1)) + 7)) ∧
    (0 ≤ ((6 * (a1 + 1)) + 7)) ∧
    post (1 + (((6 * (a1 + 1)) + 7) / 8)) σ
  ))
/- X10_leaves -/
def wc_X10_leaves (σ : ZS) (post : Int → ZS → Prop) : Prop :=
  post 2 σ
/- X10_add -/
def wc_X10_add (a1 : Int) (σ : ZS) (post : ZS → Prop) : Prop :=
  ∀ σ1 : ZS, σ1 = zst σ 62 2 (zor ((σ 62 2) * 64) a1) →
  ∀ σ2 : ZS, σ2 = zst σ1 62 3 ((σ1 62 3) + 6) →
  (InR (σ2 62 3)) ∧
  ((8 ≤ (σ2 62 3) →
    ∀ σ5 : ZS, σ5 = zst σ2 62 3 ((σ2 62 3) - 8) →
    wc_X4_put (zshr (σ5 62 2) (σ5 62 3)) σ5 (fun σ6 => 
    ∀ σ7 : ZS, σ7 = zst σ6 62 2 (zand (σ6 62 2) ((zshl 1 (σ6 62 3)) - 1)) →
    post σ7)
  ) ∧
  ((σ2 62 3) < 8 →
    post σ2
  ))
/- X10_write -/
def wc_X10_write_68 (post : ZS → Prop) (σ : ZS) : Prop :=
  (InR (σ 62 3)) ∧
  (((σ 62 3) ≤ 0 →
    post σ
  ) ∧
  (0 < (σ 62 3) →
    wc_X4_put (zshl (σ 62 2) (8 - (σ 62 3))) σ (fun σ3 => 
    post σ3)
  ))
def wc_X10_write_47 (C13 : Int × Int × Int × Int × ZS → Prop) (post : ZS → Prop) (v3 : Int) (v4 : Int) (v5 : Int) (v6 : Int) (t0 : Int) (σ : ZS) : Prop :=
  wc_X10_add t0 σ (fun σ1 => 
  C13 (v3, v4, v5, v6 + 1, σ1))
def wbc_X10_write_13 (post : ZS → Prop) (C13 : Int × Int × Int × Int × ZS → Prop) : Int × Int × Int × Int × ZS → Prop := fun (v3, v4, v5, v6, σ) =>
  (InR v6) ∧
  (InR (v3 + v4)) ∧
  (((v3 + v4) ≤ v6 →
    (InR v5) ∧
    ((v5 = 0 →
      wc_X10_write_68 post σ
    ) ∧
    (¬ v5 = 0 →
      wc_X10_add 31 σ (fun σ6 => 
      wc_X10_write_68 post σ6)
    ))
  ) ∧
  (v6 < (v3 + v4) →
    (0 ≤ v6 ∧ v6 < 3200) ∧
    (InR (σ 66 v6)) ∧
    (((σ 66 v6) < 64 →
      wc_X10_write_47 C13 post v3 v4 v5 v6 (σ 66 v6) σ
    ) ∧
    (64 ≤ (σ 66 v6) →
      wc_X10_write_47 C13 post v3 v4 v5 v6 ((σ 66 v6) - 64) σ
    ))
  ))
def wc_X10_write (a2 : Int) (a3 : Int) (a4 : Int) (σ : ZS) (post : ZS → Prop) : Prop :=
  ∀ σ1 : ZS, σ1 = zst σ 62 2 0 →
  ∀ σ2 : ZS, σ2 = zst σ1 62 3 0 →
  ∃ N : Nat, zfix (wbc_X10_write_13 post) N (a2, a3, a4, a2, σ2)
/- X11_mask -/
def wc_X11_mask (a0 : Int) (σ : ZS) (post : Int → ZS → Prop) : Prop :=
  (InR (149 * a0)) ∧
  (0 ≤ (149 * a0)) ∧
  post (((149 * a0) % 255) + 1) σ
/- X11_prepare -/
def wc_X11_prepare (a1 : Int) (σ : ZS) (post : ZS → Prop) : Prop :=
  ∀ σ1 : ZS, σ1 = zst σ 64 1 a1 →
  post σ1
/- X11_open -/
def wc_X11_open (a0 : Int) (a1 : Int) (σ : ZS) (post : Int → ZS → Prop) : Prop :=
  (InR (a0 + a1)) ∧
  (InR (σ 64 1)) ∧
  ((¬ (a0 + a1) = (σ 64 1) →
    post 1000000 σ
  ) ∧
  ((a0 + a1) = (σ 64 1) →
    post (2 + a1) σ
  ))
/- X11_closed -/
def wc_X11_closed (a0 : Int) (a1 : Int) (σ : ZS) (post : Int → ZS → Prop) : Prop :=
  (InR a1) ∧
  ((249 < a1 →
    ((1749 < a1 →
      post 1000000 σ
    ) ∧
    (a1 ≤ 1749 →
      post (3 + a1) σ
    ))
  ) ∧
  (a1 ≤ 249 →
    post (2 + a1) σ
  ))
/- X11_leaves -/
def wc_X11_leaves (σ : ZS) (post : Int → ZS → Prop) : Prop :=
  post 0 σ
/- X11_put -/
def wc_X11_put (a1 : Int) (σ : ZS) (post : ZS → Prop) : Prop :=
  wc_X11_mask ((σ 48 3) + 1) σ (fun r2 σ1 => 
  wc_X4_put ((a1 + r2) % 256) σ1 (fun σ3 => 
  post σ3))
/- X11_write -/
def wbc_X11_write_57 (post : ZS → Prop) (C57 : Int × Int × Int × ZS → Prop) : Int × Int × Int × ZS → Prop := fun (v3, v4, v6, σ) =>
  (InR v6) ∧
  (InR (v3 + v4)) ∧
  (((v3 + v4) ≤ v6 →
    post σ
  ) ∧
  (v6 < (v3 + v4) →
    (0 ≤ v6 ∧ v6 < 3200) ∧
    wc_X11_put (σ 66 v6) σ (fun σ5 => 
    C57 (v3, v4, v6 + 1, σ5))
  ))
def wc_X11_write_54 (post : ZS → Prop) (v3 : Int) (v4 : Int) (σ : ZS) : Prop :=
  ∃ N : Nat, zfix (wbc_X11_write_57 post) N (v3, v4, v3, σ)
def wc_X11_write (a2 : Int) (a3 : Int) (a4 : Int) (σ : ZS) (post : ZS → Prop) : Prop :=
  (InR a4) ∧
  ((¬ a4 = 0 →
    (InR a3) ∧
    ((249 < a3 →
      (0 ≤ a3) ∧
      wc_X11_put ((a3 / 250) + 249) σ (fun σ6 => 
      wc_X11_put (a3 % 250) σ6 (fun σ7 => 
      wc_X11_write_54 post a2 a3 σ7))
    ) ∧
    (a3 ≤ 249 →
      wc_X11_put a3 σ (fun σ8 => 
      wc_X11_write_54 post a2 a3 σ8)
    ))
  ) ∧
  (a4 = 0 →
    wc_X11_put 0 σ (fun σ9 => 
    wc_X11_write_54 post a2 a3 σ9)
  ))
/- X12_isDigit -/
def wc_X12_isDigit (a0 : Int) (σ : ZS) (post : Int → ZS → Prop) : Prop :=
  (InR a0) ∧
  (InR (σ 65 3)) ∧
  (((σ 65 3) ≤ a0 →
    post 0 σ
  ) ∧
  (a0 < (σ 65 3) →
    (0 ≤ a0 ∧ a0 < 3200) ∧
    (InR (σ 66 a0)) ∧
    (((σ 66 a0) < 48 →
      post 0 σ
    ) ∧
    (48 ≤ (σ 66 a0) →
      ((57 < (σ 66 a0) →
        post 0 σ
      ) ∧
      ((σ 66 a0) ≤ 57 →
        post 1 σ
      ))
    ))
  ))
/- X12_one -/
def wc_X12_one (a0 : Int) (σ : ZS) (post : Int → ZS → Prop) : Prop :=
  (0 ≤ a0 ∧ a0 < 3200) ∧
  (InR (σ 66 a0)) ∧
  (((σ 66 a0) < 0 →
    post 2 σ
  ) ∧
  (0 ≤ (σ 66 a0) →
    post 1 σ
  ))
/- X12_open -/
def wv_En_open (o : Nat) (a0 : Int) (a1 : Int) (σ : ZS) (post : Int → ZS → Prop) : Prop :=
  (isSe o → wc_X8_open o a0 a1 σ post) ∧
  (o = 59 → wc_X9_open a0 a1 σ post) ∧
  (o = 62 → wc_X10_open a0 a1 σ post) ∧
  (o = 64 → wc_X11_open a0 a1 σ post)
def wv_En_leaves (o : Nat) (σ : ZS) (post : Int → ZS → Prop) : Prop :=
  (isSe o → wc_X7_leaves o σ post) ∧
  (o = 59 → wc_X7_leaves o σ post) ∧
  (o = 62 → wc_X10_leaves  σ post) ∧
  (o = 64 → wc_X11_leaves  σ post)
def wc_X12_open_51 (q0 : Nat) (post : Int → ZS → Prop) (σ : ZS) : Prop :=
  post 1000000 σ
def wc_X12_open (q0 : Nat) (a1 : Int) (a2 : Int) (σ : ZS) (post : Int → ZS → Prop) : Prop :=
  (isEn q0) ∧
  (0 ≤ a1 ∧ a1 < 3201) ∧
  wv_En_open q0 a1 a2 σ (fun r3 σ2 => 
  ∀ v4_4 : Int, v4_4 = ((σ 65 10) - (σ 68 a1)) - r3 →
  (0 ≤ (a1 + a2) ∧ (a1 + a2) < 3201) ∧
  ∀ v5_6 : Int, v5_6 = σ2 69 (a1 + a2) →
  (InR v4_4) ∧
  ((v4_4 < 0 →
    wc_X12_open_51 q0 post σ2
  ) ∧
  (0 ≤ v4_4 →
    wv_En_leaves q0 σ2 (fun r10 σ9 => 
    (InR r10) ∧
    ((r10 < v4_4 →
      wc_X12_open_51 q0 post σ9
    ) ∧
    (v4_4 ≤ r10 →
      (InR v5_6) ∧
      ((v5_6 ≤ v4_4 →
        post (((σ9 65 10) - v4_4) + v5_6) σ9
      ) ∧
      (v4_4 < v5_6 →
        wc_X12_open_51 q0 post σ9
      ))
    )))
  )))
/- X12_leastOpen -/
def wbc_X12_leastOpen_30 (C5 : Int × Int × Int × ZS → Prop) (post : Int → ZS → Prop) (C30 : Int × Int × Int × Int × ZS → Prop) : Int × Int × Int × Int × ZS → Prop := fun (v1, v2, v3, v4, σ) =>
  (InR v4) ∧
  (InR ((σ 65 3) - v1)) ∧
  ((((σ 65 3) - v1) < v4 →
    C5 (v1, v2, v3 + 1, σ)
  ) ∧
  (v4 ≤ ((σ 65 3) - v1) →
    (0 ≤ v3 ∧ v3 < 5) ∧
    (InR (σ 51 2)) ∧
    (v3 < σ 51 2) ∧
    wc_X12_open (encC v3) v1 v4 σ (fun r8 σ7 => 
    (InR v2) ∧
    (InR r8) ∧
    ∀ v2_11 : Int, v2_11 = min v2 r8 →
    C30 (v1, v2_11, v3, v4 + 1, σ7))
  ))
def wbc_X12_leastOpen_5 (post : Int → ZS → Prop) (C5 : Int × Int × Int × ZS → Prop) : Int × Int × Int × ZS → Prop := fun (v1, v2, v3, σ) =>
  (InR v3) ∧
  (InR (σ 51 2)) ∧
  (((σ 51 2) ≤ v3 →
    post v2 σ
  ) ∧
  (v3 < (σ 51 2) →
    (InR (((σ 65 3) - v1) - 4)) ∧
    ∀ v4_5 : Int, v4_5 = max 1 (((σ 65 3) - v1) - 4) →
    ∃ N : Nat, zfix (wbc_X12_leastOpen_30 C5 post) N (v1, v2, v3, v4_5, σ)
  ))
def wc_X12_leastOpen (a0 : Int) (σ : ZS) (post : Int → ZS → Prop) : Prop :=
  ∃ N : Nat, zfix (wbc_X12_leastOpen_5 post) N (a0, 1000000, 0, σ)
/- X12_fits -/
def wc_X12_fits_84 (post : Int → ZS → Prop) (t0 : Int) (σ : ZS) : Prop :=
  ∀ σ1 : ZS, σ1 = zst σ 65 9 t0 →
  (InR (σ1 65 9)) ∧
  ((1000000 ≤ (σ1 65 9) →
    post 0 σ1
  ) ∧
  ((σ1 65 9) < 1000000 →
    post 1 σ1
  ))
def wc_X12_fits_63 (post : Int → ZS → Prop) (v2 : Int) (t0 : Int) (σ : ZS) : Prop :=
  (t0 = 0 ∨ t0 = 1) ∧
  ∀ σ1 : ZS, σ1 = zst σ 65 11 t0 →
  (InR (σ1 65 11)) ∧
  (((σ1 65 11) = 0 →
    wc_X12_fits_84 post v2 σ1
  ) ∧
  (¬ (σ1 65 11) = 0 →
    wc_X12_fits_84 post (σ1 67 0) σ1
  ))
def wc_X12_fits_62 (post : Int → ZS → Prop) (v2 : Int) (σ : ZS) : Prop :=
  wc_X12_fits_63 post v2 0 σ
def wbc_X12_fits_10 (post : Int → ZS → Prop) (C10 : Int × Int × ZS → Prop) : Int × Int × ZS → Prop := fun (v2, v3, σ) =>
  (InR v3) ∧
  (InR (σ 65 3)) ∧
  (((σ 65 3) ≤ v3 →
    (InR (σ 67 0)) ∧
    (InR (σ 65 10)) ∧
    (((σ 65 10) < (σ 67 0) →
      wc_X12_fits_62 post v2 σ
    ) ∧
    ((σ 67 0) ≤ (σ 65 10) →
      (InR v2) ∧
      ((v2 < (σ 67 0) →
        wc_X12_fits_62 post v2 σ
      ) ∧
      ((σ 67 0) ≤ v2 →
        wc_X12_fits_63 post v2 1 σ
      ))
    ))
  ) ∧
  (v3 < (σ 65 3) →
    wc_X12_leastOpen v3 σ (fun r10 σ9 => 
    (InR v2) ∧
    (InR r10) ∧
    ∀ v2_13 : Int, v2_13 = min v2 r10 →
    C10 (v2_13, v3 + 1, σ9))
  ))
def wc_X12_fits (a0 : Int) (σ : ZS) (post : Int → ZS → Prop) : Prop :=
  ∀ σ1 : ZS, σ1 = zst σ 65 10 a0 →
  ∃ N : Nat, zfix (wbc_X12_fits_10 post) N (1000000, 0, σ1)
/- X12_goes -/
def wc_X12_goes (a0 : Int) (a1 : Int) (a2 : Int) (σ : ZS) (post : Int → ZS → Prop) : Prop :=
  (0 ≤ a0 ∧ a0 < 3201) ∧
  (0 ≤ (a0 + a1) ∧ (a0 + a1) < 3201) ∧
  (InR ((σ 68 a0) + a2)) ∧
  (InR (σ 68 (a0 + a1))) ∧
  ((¬ ((σ 68 a0) + a2) = (σ 68 (a0 + a1)) →
    post 0 σ
  ) ∧
  (((σ 68 a0) + a2) = (σ 68 (a0 + a1)) →
    (InR (σ 70 (a0 + a1))) ∧
    (((σ 70 (a0 + a1)) = 0 →
      post 0 σ
    ) ∧
    (¬ (σ 70 (a0 + a1)) = 0 →
      post 1 σ
    ))
  ))
/- X12_may -/
def wc_X12_may (a0 : Int) (a1 : Int) (a2 : Int) (σ : ZS) (post : Int → ZS → Prop) : Prop :=
  (InR (σ 65 11)) ∧
  (((σ 65 11) = 0 →
    wc_X12_goes a0 a1 a2 σ (fun r4 σ3 => r4 = 0 ∨ r4 = 1 →
    post r4 σ3)
  ) ∧
  (¬ (σ 65 11) = 0 →
    (0 ≤ (a0 + a1) ∧ (a0 + a1) < 3201) ∧
    (0 ≤ a0 ∧ a0 < 3201) ∧
    (InR (a2 + (σ 67 (a0 + a1)))) ∧
    (InR (σ 67 a0)) ∧
    ((¬ (a2 + (σ 67 (a0 + a1))) = (σ 67 a0) →
      post 0 σ
    ) ∧
    ((a2 + (σ 67 (a0 + a1))) = (σ 67 a0) →
      post 1 σ
    ))
  ))
/- X12_leads -/
def wv_En_closed (o : Nat) (a0 : Int) (a1 : Int) (σ : ZS) (post : Int → ZS → Prop) : Prop :=
  (isSe o → wc_X8_closed o a0 a1 σ post) ∧
  (o = 59 → wc_X9_closed a0 a1 σ post) ∧
  (o = 62 → wc_X10_closed a0 a1 σ post) ∧
  (o = 64 → wc_X11_closed a0 a1 σ post)
def wc_X12_leads_153 (C17 : Int × ZS → Prop) (post : ZS → Prop) (v1 : Int) (v2 : Int) (σ : ZS) : Prop :=
  (0 ≤ v1 ∧ v1 < 3201) ∧
  (v2 = 0 ∨ v2 = 1) ∧
  ∀ σ2 : ZS, σ2 = zst σ 70 v1 v2 →
  C17 (v1 + (-1), σ2)
def wbc_X12_leads_101 (C17 : Int × ZS → Prop) (C83 : Int × Int × Int × ZS → Prop) (post : ZS → Prop) (C101 : Int × Int × Int × Int × ZS → Prop) : Int × Int × Int × Int × ZS → Prop := fun (v1, v2, v3, v4, σ) =>
  (InR v4) ∧
  (InR ((σ 65 3) - v1)) ∧
  ((((σ 65 3) - v1) < v4 →
    C83 (v1, v2, v3 + 1, σ)
  ) ∧
  (v4 ≤ ((σ 65 3) - v1) →
    (InR v2) ∧
    ((¬ v2 = 0 →
      C83 (v1, v2, v3 + 1, σ)
    ) ∧
    (v2 = 0 →
      (0 ≤ v3 ∧ v3 < 5) ∧
      (InR (σ 51 2)) ∧
      (v3 < σ 51 2) ∧
      wv_En_closed (encC v3) v1 v4 σ (fun r10 σ9 => 
      wc_X12_goes v1 v4 r10 σ9 (fun r12 σ11 => r12 = 0 ∨ r12 = 1 →
      C101 (v1, r12, v3, v4 + 1, σ11)))
    ))
  ))
def wbc_X12_leads_83 (C17 : Int × ZS → Prop) (post : ZS → Prop) (C83 : Int × Int × Int × ZS → Prop) : Int × Int × Int × ZS → Prop := fun (v1, v2, v3, σ) =>
  (InR v3) ∧
  (InR (σ 51 2)) ∧
  (((σ 51 2) ≤ v3 →
    wc_X12_leads_153 C17 post v1 v2 σ
  ) ∧
  (v3 < (σ 51 2) →
    (InR v2) ∧
    ((¬ v2 = 0 →
      wc_X12_leads_153 C17 post v1 v2 σ
    ) ∧
    (v2 = 0 →
      ∃ N : Nat, zfix (wbc_X12_leads_101 C17 C83 post) N (v1, v2, v3, 1, σ)
    ))
  ))
def wc_X12_leads_80 (C17 : Int × ZS → Prop) (post : ZS → Prop) (v1 : Int) (t0 : Int) (σ : ZS) : Prop :=
  ∃ N : Nat, zfix (wbc_X12_leads_83 C17 post) N (v1, t0, 0, σ)
def wc_X12_leads_79 (C17 : Int × ZS → Prop) (post : ZS → Prop) (v1 : Int) (σ : ZS) : Prop :=
  wc_X12_leads_80 C17 post v1 0 σ
def wbc_X12_leads_17 (post : ZS → Prop) (C17 : Int × ZS → Prop) : Int × ZS → Prop := fun (v1, σ) =>
  (InR v1) ∧
  ((v1 < 0 →
    post σ
  ) ∧
  (0 ≤ v1 →
    wc_X12_leastOpen v1 σ (fun r4 σ3 => 
    (InR r4) ∧
    (InR (σ3 65 9)) ∧
    ((r4 = (σ3 65 9) →
      wc_X12_leads_80 C17 post v1 1 σ3
    ) ∧
    (¬ r4 = (σ3 65 9) →
      wc_X12_one v1 σ3 (fun r9 σ8 => 
      wc_X12_goes v1 1 r9 σ8 (fun r11 σ10 => r11 = 0 ∨ r11 = 1 →
      ((¬ r11 = 0 →
        wc_X12_leads_80 C17 post v1 1 σ10
      ) ∧
      (r11 = 0 →
        wc_X12_isDigit v1 σ10 (fun r14 σ13 => r14 = 0 ∨ r14 = 1 →
        ((r14 = 0 →
          wc_X12_leads_79 C17 post v1 σ13
        ) ∧
        (¬ r14 = 0 →
          wc_X12_isDigit (v1 + 1) σ13 (fun r17 σ16 => r17 = 0 ∨ r17 = 1 →
          ((r17 = 0 →
            wc_X12_leads_79 C17 post v1 σ16
          ) ∧
          (¬ r17 = 0 →
            wc_X12_goes v1 2 1 σ16 (fun r20 σ19 => r20 = 0 ∨ r20 = 1 →
            ((r20 = 0 →
              wc_X12_leads_79 C17 post v1 σ19
            ) ∧
            (¬ r20 = 0 →
              wc_X12_leads_80 C17 post v1 1 σ19
            )))
          )))
        )))
      ))))
    )))
  ))
def wc_X12_leads (σ : ZS) (post : ZS → Prop) : Prop :=
  (0 ≤ (σ 65 3) ∧ (σ 65 3) < 3201) ∧
  ∀ σ2 : ZS, σ2 = zst σ 70 (σ 65 3) 0 →
  ∀ v1_3 : Int, v1_3 = (σ2 65 3) - 1 →
  ∃ N : Nat, zfix (wbc_X12_leads_17 post) N (v1_3, σ2)
/- X12_begin -/
def wv_En_prepare (o : Nat) (a1 : Int) (σ : ZS) (post : ZS → Prop) : Prop :=
  (isSe o → wc_X8_prepare o a1 σ post) ∧
  (o = 59 → wc_X9_prepare a1 σ post) ∧
  (o = 62 → wc_X10_prepare a1 σ post) ∧
  (o = 64 → wc_X11_prepare a1 σ post)
def wbc_X12_begin_453 (C337 : Int × ZS → Prop) (C424 : Int × Int × ZS → Prop) (post : ZS → Prop) (C453 : Int × Int × Nat × Int × ZS → Prop) : Int × Int × Nat × Int × ZS → Prop := fun (v3, v4, q5, v6, σ) =>
  (isEn q5) ∧
  (InR v6) ∧
  (InR ((σ 65 3) - v3)) ∧
  ((((σ 65 3) - v3) < v6 →
    C424 (v3, v4 + 1, σ)
  ) ∧
  (v6 ≤ ((σ 65 3) - v3) →
    (0 ≤ (v3 + v6) ∧ (v3 + v6) < 3201) ∧
    (0 ≤ v3 ∧ v3 < 3201) ∧
    wv_En_closed q5 v3 v6 σ (fun r7 σ6 => 
    (InR (σ 68 (v3 + v6))) ∧
    (InR ((σ 68 v3) + r7)) ∧
    ∀ σ10 : ZS, σ10 = zst σ6 68 (v3 + v6) (min (σ 68 (v3 + v6)) ((σ 68 v3) + r7)) →
    C453 (v3, v4, q5, v6 + 1, σ10))
  ))
def wbc_X12_begin_424 (C337 : Int × ZS → Prop) (post : ZS → Prop) (C424 : Int × Int × ZS → Prop) : Int × Int × ZS → Prop := fun (v3, v4, σ) =>
  (InR v4) ∧
  (InR (σ 51 2)) ∧
  (((σ 51 2) ≤ v4 →
    C337 (v3 + 1, σ)
  ) ∧
  (v4 < (σ 51 2) →
    (0 ≤ v4 ∧ v4 < 5) ∧
    (v4 < σ 51 2) ∧
    ∃ N : Nat, zfix (wbc_X12_begin_453 C337 C424 post) N (v3, v4, (encC v4), 1, σ)
  ))
def wc_X12_begin_421 (C337 : Int × ZS → Prop) (post : ZS → Prop) (v3 : Int) (σ : ZS) : Prop :=
  ∃ N : Nat, zfix (wbc_X12_begin_424 C337 post) N (v3, 0, σ)
def wbc_X12_begin_337 (post : ZS → Prop) (C337 : Int × ZS → Prop) : Int × ZS → Prop := fun (v3, σ) =>
  (InR v3) ∧
  (InR (σ 65 3)) ∧
  (((σ 65 3) ≤ v3 →
    post σ
  ) ∧
  (v3 < (σ 65 3) →
    (0 ≤ (v3 + 1) ∧ (v3 + 1) < 3201) ∧
    (0 ≤ v3 ∧ v3 < 3201) ∧
    wc_X12_one v3 σ (fun r7 σ6 => 
    (InR (σ 68 (v3 + 1))) ∧
    (InR ((σ 68 v3) + r7)) ∧
    ∀ σ10 : ZS, σ10 = zst σ6 68 (v3 + 1) (min (σ 68 (v3 + 1)) ((σ 68 v3) + r7)) →
    wc_X12_isDigit v3 σ10 (fun r12 σ11 => r12 = 0 ∨ r12 = 1 →
    ((r12 = 0 →
      wc_X12_begin_421 C337 post v3 σ11
    ) ∧
    (¬ r12 = 0 →
      wc_X12_isDigit (v3 + 1) σ11 (fun r15 σ14 => r15 = 0 ∨ r15 = 1 →
      ((r15 = 0 →
        wc_X12_begin_421 C337 post v3 σ14
      ) ∧
      (¬ r15 = 0 →
        (0 ≤ (v3 + 2) ∧ (v3 + 2) < 3201) ∧
        (InR (σ14 68 (v3 + 2))) ∧
        (InR ((σ14 68 v3) + 1)) ∧
        ∀ σ20 : ZS, σ20 = zst σ14 68 (v3 + 2) (min (σ14 68 (v3 + 2)) ((σ14 68 v3) + 1)) →
        wc_X12_begin_421 C337 post v3 σ20
      )))
    ))))
  ))
def wc_X12_begin_328 (C305 : Int × ZS → Prop) (post : ZS → Prop) (v3 : Int) (t0 : Int) (t1 : Int) (σ : ZS) : Prop :=
  (0 ≤ t1 ∧ t1 < 3201) ∧
  ∀ σ2 : ZS, σ2 = zst σ 68 t1 t0 →
  C305 (v3 + 1, σ2)
def wbc_X12_begin_305 (post : ZS → Prop) (C305 : Int × ZS → Prop) : Int × ZS → Prop := fun (v3, σ) =>
  (InR v3) ∧
  (InR (σ 65 3)) ∧
  (((σ 65 3) < v3 →
    ∃ N : Nat, zfix (wbc_X12_begin_337 post) N (0, σ)
  ) ∧
  (v3 ≤ (σ 65 3) →
    ((¬ v3 = 0 →
      wc_X12_begin_328 C305 post v3 1000000 v3 σ
    ) ∧
    (v3 = 0 →
      wc_X12_begin_328 C305 post v3 0 v3 σ
    ))
  ))
def wbc_X12_begin_241 (C98 : Int × ZS → Prop) (C212 : Int × Int × Int × ZS → Prop) (post : ZS → Prop) (C241 : Int × Int × Int × Nat × Int × ZS → Prop) : Int × Int × Int × Nat × Int × ZS → Prop := fun (v3, v5, v6, q7, v8, σ) =>
  (isEn q7) ∧
  (InR v8) ∧
  (InR ((σ 65 3) - v3)) ∧
  ((((σ 65 3) - v3) < v8 →
    C212 (v3, v5, v6 + 1, σ)
  ) ∧
  (v8 ≤ ((σ 65 3) - v3) →
    wv_En_closed q7 v3 v8 σ (fun r5 σ4 => 
    (0 ≤ (v3 + v8) ∧ (v3 + v8) < 3201) ∧
    (InR v5) ∧
    (InR (r5 + (σ4 67 (v3 + v8)))) ∧
    ∀ v5_9 : Int, v5_9 = min v5 (r5 + (σ4 67 (v3 + v8))) →
    C241 (v3, v5_9, v6, q7, v8 + 1, σ4))
  ))
def wbc_X12_begin_212 (C98 : Int × ZS → Prop) (post : ZS → Prop) (C212 : Int × Int × Int × ZS → Prop) : Int × Int × Int × ZS → Prop := fun (v3, v5, v6, σ) =>
  (InR v6) ∧
  (InR (σ 51 2)) ∧
  (((σ 51 2) ≤ v6 →
    (0 ≤ v3 ∧ v3 < 3201) ∧
    ∀ σ5 : ZS, σ5 = zst σ 67 v3 v5 →
    C98 (v3 + (-1), σ5)
  ) ∧
  (v6 < (σ 51 2) →
    (0 ≤ v6 ∧ v6 < 5) ∧
    (v6 < σ 51 2) ∧
    ∃ N : Nat, zfix (wbc_X12_begin_241 C98 C212 post) N (v3, v5, v6, (encC v6), 1, σ)
  ))
def wc_X12_begin_204 (C98 : Int × ZS → Prop) (post : ZS → Prop) (v3 : Int) (t0 : Int) (t1 : Int) (σ : ZS) : Prop :=
  (InR t1) ∧
  (InR t0) ∧
  ∀ v5_3 : Int, v5_3 = min t1 t0 →
  ∃ N : Nat, zfix (wbc_X12_begin_212 C98 post) N (v3, v5_3, 0, σ)
def wc_X12_begin_166 (C98 : Int × ZS → Prop) (post : ZS → Prop) (v3 : Int) (v4 : Int) (t0 : Int) (t1 : Int) (t2 : Int) (σ : ZS) : Prop :=
  (InR t1) ∧
  (InR t0) ∧
  (0 ≤ t2 ∧ t2 < 3201) ∧
  ∀ σ4 : ZS, σ4 = zst σ 69 t2 (min t1 t0) →
  wc_X12_one v3 σ4 (fun r6 σ5 => 
  (0 ≤ (v3 + 1) ∧ (v3 + 1) < 3201) ∧
  (InR v4) ∧
  ((v4 = 0 →
    wc_X12_begin_204 C98 post v3 1000000 (r6 + (σ5 67 (v3 + 1))) σ5
  ) ∧
  (¬ v4 = 0 →
    (0 ≤ (v3 + 2) ∧ (v3 + 2) < 3201) ∧
    wc_X12_begin_204 C98 post v3 (1 + (σ5 67 (v3 + 2))) (r6 + (σ5 67 (v3 + 1))) σ5
  )))
def wc_X12_begin_125 (C98 : Int × ZS → Prop) (post : ZS → Prop) (v3 : Int) (t0 : Int) (σ : ZS) : Prop :=
  wc_X12_one v3 σ (fun r2 σ1 => 
  (0 ≤ (v3 + 1) ∧ (v3 + 1) < 3201) ∧
  (InR t0) ∧
  ((t0 = 0 →
    wc_X12_begin_166 C98 post v3 t0 1000000 (r2 + (σ1 69 (v3 + 1))) v3 σ1
  ) ∧
  (¬ t0 = 0 →
    (0 ≤ (v3 + 2) ∧ (v3 + 2) < 3201) ∧
    wc_X12_begin_166 C98 post v3 t0 (1 + (σ1 69 (v3 + 2))) (r2 + (σ1 69 (v3 + 1))) v3 σ1
  )))
def wc_X12_begin_124 (C98 : Int × ZS → Prop) (post : ZS → Prop) (v3 : Int) (σ : ZS) : Prop :=
  wc_X12_begin_125 C98 post v3 0 σ
def wbc_X12_begin_98 (post : ZS → Prop) (C98 : Int × ZS → Prop) : Int × ZS → Prop := fun (v3, σ) =>
  (InR v3) ∧
  ((v3 < 0 →
    ∃ N : Nat, zfix (wbc_X12_begin_305 post) N (0, σ)
  ) ∧
  (0 ≤ v3 →
    wc_X12_isDigit v3 σ (fun r4 σ3 => r4 = 0 ∨ r4 = 1 →
    ((r4 = 0 →
      wc_X12_begin_124 C98 post v3 σ3
    ) ∧
    (¬ r4 = 0 →
      wc_X12_isDigit (v3 + 1) σ3 (fun r7 σ6 => r7 = 0 ∨ r7 = 1 →
      ((r7 = 0 →
        wc_X12_begin_124 C98 post v3 σ6
      ) ∧
      (¬ r7 = 0 →
        wc_X12_begin_125 C98 post v3 1 σ6
      )))
    )))
  ))
def wbc_X12_begin_32 (post : ZS → Prop) (C32 : Int × ZS → Prop) : Int × ZS → Prop := fun (v3, σ) =>
  (InR v3) ∧
  (InR (σ 51 2)) ∧
  (((σ 51 2) ≤ v3 →
    (0 ≤ (σ 65 3) ∧ (σ 65 3) < 3201) ∧
    ∀ σ5 : ZS, σ5 = zst σ 69 (σ 65 3) 0 →
    (0 ≤ (σ5 65 3) ∧ (σ5 65 3) < 3201) ∧
    ∀ σ7 : ZS, σ7 = zst σ5 67 (σ5 65 3) 0 →
    ∀ v3_8 : Int, v3_8 = (σ7 65 3) - 1 →
    ∃ N : Nat, zfix (wbc_X12_begin_98 post) N (v3_8, σ7)
  ) ∧
  (v3 < (σ 51 2) →
    (0 ≤ v3 ∧ v3 < 5) ∧
    (v3 < σ 51 2) ∧
    wv_En_prepare (encC v3) (σ 65 3) σ (fun σ11 => 
    C32 (v3 + 1, σ11))
  ))
def wbc_X12_begin_7 (post : ZS → Prop) (C7 : Int × ZS → Prop) : Int × ZS → Prop := fun (v3, σ) =>
  (InR v3) ∧
  (InR (σ 65 3)) ∧
  (((σ 65 3) ≤ v3 →
    ∃ N : Nat, zfix (wbc_X12_begin_32 post) N (0, σ)
  ) ∧
  (v3 < (σ 65 3) →
    (0 ≤ v3 ∧ v3 < 3200) ∧
    (-128 ≤ (σ 71 v3) ∧ (σ 71 v3) ≤ 127) ∧
    ∀ σ5 : ZS, σ5 = zst σ 66 v3 (σ 71 v3) →
    C7 (v3 + 1, σ5)
  ))
def wc_X12_begin (a1 : Int) (σ : ZS) (post : ZS → Prop) : Prop :=
  ∀ σ1 : ZS, σ1 = zst σ 65 3 a1 →
  ∃ N : Nat, zfix (wbc_X12_begin_7 post) N (0, σ1)
/- X1_feed -/
def wc_X1_feed_74 (C28 : Int × Int64 × Int64 × Int64 × Int × ZS → Prop) (post : Int → ZS → Prop) (v1 : Int) (v2 : Int64) (v4 : Int64) (v6 : Int64) (v8 : Int) (t0 : Int64) (t1 : Int) (σ : ZS) : Prop :=
  (InR v8) ∧
  (0 ≤ v8) ∧
  (0 ≤ t1 ∧ t1 < 3200) ∧
  ∀ σ4 : ZS, σ4 = zst σ 71 t1 (zi2b (zl2i (zlshr t0 (8 * (v8 % 8))))) →
  C28 (v1, v2, v4, v6, v8 + 1, σ4)
def wbc_X1_feed_28 (post : Int → ZS → Prop) (C28 : Int × Int64 × Int64 × Int64 × Int × ZS → Prop) : Int × Int64 × Int64 × Int64 × Int × ZS → Prop := fun (v1, v2, v4, v6, v8, σ) =>
  (InR v8) ∧
  (InR v1) ∧
  ((v1 ≤ v8 →
    post (σ 0 11) σ
  ) ∧
  (v8 < v1 →
    ∀ σ4 : ZS, σ4 = zst σ 0 11 ((σ 0 11) + 1) →
    ((8 ≤ v8 →
      ((16 ≤ v8 →
        wc_X1_feed_74 C28 post v1 v2 v4 v6 v8 v6 (σ 0 11) σ4
      ) ∧
      (v8 < 16 →
        wc_X1_feed_74 C28 post v1 v2 v4 v6 v8 v4 (σ 0 11) σ4
      ))
    ) ∧
    (v8 < 8 →
      wc_X1_feed_74 C28 post v1 v2 v4 v6 v8 v2 (σ 0 11) σ4
    ))
  ))
def wc_X1_feed (a0 : Int) (a1 : Int64) (a2 : Int64) (a3 : Int64) (σ : ZS) (post : Int → ZS → Prop) : Prop :=
  (InR a0) ∧
  ((a0 < 1 →
    post (-1) σ
  ) ∧
  (1 ≤ a0 →
    ((24 < a0 →
      post (-1) σ
    ) ∧
    (a0 ≤ 24 →
      (InR ((σ 0 11) + a0)) ∧
      ((((σ 0 11) + a0) ≤ 3200 →
        ∃ N : Nat, zfix (wbc_X1_feed_28 post) N (a0, a1, a2, a3, 0, σ)
      ) ∧
      (3200 < ((σ 0 11) + a0) →
        post (-1) σ
      ))
    ))
  ))
/- X1_take -/
def wc_X1_take (σ : ZS) (post : Int → ZS → Prop) : Prop :=
  ∀ v1_1 : Int, v1_1 = σ 0 11 →
  ∀ σ2 : ZS, σ2 = zst σ 0 11 0 →
  post v1_1 σ2
/- X1_gathers -/
def wbc_X1_gathers_9 (q0 : Nat) (post : Int → ZS → Prop) (C9 : Int × Int × Int × ZS → Prop) : Int × Int × Int × ZS → Prop := fun (v2, v3, v4, σ) =>
  (InR v4) ∧
  (InR v3) ∧
  ((v3 ≤ v4 →
    post v3 σ
  ) ∧
  (v4 < v3 →
    (0 ≤ (v2 + (v4 * (σ q0 10))) ∧ (v2 + (v4 * (σ q0 10))) < 2178) ∧
    (0 ≤ v4 ∧ v4 < 256) ∧
    ∀ σ6 : ZS, σ6 = zst σ 39 v4 (σ 74 (v2 + (v4 * (σ q0 10)))) →
    C9 (v2, v3, v4 + 1, σ6)
  ))
def wc_X1_gathers (q0 : Nat) (a1 : Int) (σ : ZS) (post : Int → ZS → Prop) : Prop :=
  (isSy q0) ∧
  wc_X5_of q0 a1 σ (fun r2 σ1 => 
  ∃ N : Nat, zfix (wbc_X1_gathers_9 q0 post) N (a1, r2, 0, σ1))
/- X1_spreads -/
def wbc_X1_spreads_3 (q0 : Nat) (post : ZS → Prop) (C3 : Int × Int × Int × ZS → Prop) : Int × Int × Int × ZS → Prop := fun (v2, v3, v4, σ) =>
  (InR v4) ∧
  (InR v3) ∧
  ((v3 ≤ v4 →
    post σ
  ) ∧
  (v4 < v3 →
    (0 ≤ v4 ∧ v4 < 256) ∧
    (0 ≤ (v2 + (v4 * (σ q0 10))) ∧ (v2 + (v4 * (σ q0 10))) < 2178) ∧
    ∀ σ6 : ZS, σ6 = zst σ 74 (v2 + (v4 * (σ q0 10))) (σ 39 v4) →
    C3 (v2, v3, v4 + 1, σ6)
  ))
def wc_X1_spreads (q0 : Nat) (a1 : Int) (a2 : Int) (σ : ZS) (post : ZS → Prop) : Prop :=
  (isSy q0) ∧
  ∃ N : Nat, zfix (wbc_X1_spreads_3 q0 post) N (a1, a2, 0, σ)
/- X1_place -/
def wc_X1_place (a0 : Int) (σ : ZS) (post : Int → ZS → Prop) : Prop :=
  (2 ≤ (σ 0 17) ∧ (σ 0 17) < 32) ∧
  (InR a0) ∧
  (0 ≤ a0) ∧
  (InR (σ ((σ 0 17).toNat) 6)) ∧
  (0 < (σ ((σ 0 17).toNat) 6)) ∧
  wc_X5_row ((σ 0 17).toNat) (a0 / (σ ((σ 0 17).toNat) 6)) σ (fun r7 σ6 => 
  (2 ≤ (σ6 0 17) ∧ (σ6 0 17) < 32) ∧
  (InR (σ6 ((σ6 0 17).toNat) 6)) ∧
  (0 < (σ6 ((σ6 0 17).toNat) 6)) ∧
  wc_X5_column ((σ6 0 17).toNat) (a0 % (σ6 ((σ6 0 17).toNat) 6)) σ6 (fun r12 σ11 => 
  post ((r7 * 144) + r12) σ11))
/- X1_write -/
def wc_X1_write_47 (C2 : Int × Int × Int × ZS → Prop) (post : ZS → Prop) (v1 : Int) (v2 : Int) (v3 : Int) (t0 : Int) (t1 : Int) (σ : ZS) : Prop :=
  (0 ≤ t1 ∧ t1 < 20736) ∧
  (t0 = 0 ∨ t0 = 1) ∧
  ∀ σ2 : ZS, σ2 = zst σ 73 t1 t0 →
  C2 (v1, v2, v3 + 1, σ2)
def wbc_X1_write_2 (post : ZS → Prop) (C2 : Int × Int × Int × ZS → Prop) : Int × Int × Int × ZS → Prop := fun (v1, v2, v3, σ) =>
  (InR v3) ∧
  ((8 ≤ v3 →
    post σ
  ) ∧
  (v3 < 8 →
    (0 ≤ ((8 * v1) + v3) ∧ ((8 * v1) + v3) < 17424) ∧
    wc_X1_place (σ 33 ((8 * v1) + v3)) σ (fun r5 σ4 => 
    (InR ((zshr v2 (7 - v3)) % 2)) ∧
    ((¬ ((zshr v2 (7 - v3)) % 2) = 1 →
      wc_X1_write_47 C2 post v1 v2 v3 0 r5 σ4
    ) ∧
    (((zshr v2 (7 - v3)) % 2) = 1 →
      wc_X1_write_47 C2 post v1 v2 v3 1 r5 σ4
    )))
  ))
def wc_X1_write (a0 : Int) (a1 : Int) (σ : ZS) (post : ZS → Prop) : Prop :=
  ∃ N : Nat, zfix (wbc_X1_write_2 post) N (a0, a1, 0, σ)
/- X1_wordAt -/
def wc_X1_wordAt_44 (C4 : Int × Int × Int × ZS → Prop) (post : Int → ZS → Prop) (v1 : Int) (v3 : Int) (t0 : Int) (t1 : Int) (σ : ZS) : Prop :=
  ∀ v2_1 : Int, v2_1 = t1 + t0 →
  C4 (v1, v2_1, v3 + 1, σ)
def wbc_X1_wordAt_4 (post : Int → ZS → Prop) (C4 : Int × Int × Int × ZS → Prop) : Int × Int × Int × ZS → Prop := fun (v1, v2, v3, σ) =>
  (InR v3) ∧
  ((8 ≤ v3 →
    post v2 σ
  ) ∧
  (v3 < 8 →
    (0 ≤ ((8 * v1) + v3) ∧ ((8 * v1) + v3) < 17424) ∧
    wc_X1_place (σ 33 ((8 * v1) + v3)) σ (fun r5 σ4 => 
    (0 ≤ r5 ∧ r5 < 20736) ∧
    (InR (σ4 73 r5)) ∧
    (((σ4 73 r5) = 0 →
      wc_X1_wordAt_44 C4 post v1 v3 0 (2 * v2) σ4
    ) ∧
    (¬ (σ4 73 r5) = 0 →
      wc_X1_wordAt_44 C4 post v1 v3 1 (2 * v2) σ4
    )))
  ))
def wc_X1_wordAt (a0 : Int) (σ : ZS) (post : Int → ZS → Prop) : Prop :=
  ∃ N : Nat, zfix (wbc_X1_wordAt_4 post) N (a0, 0, 0, σ)
/- X1_load -/
def wc_X1_load_132 (C58 : Int × ZS → Prop) (post : Int → ZS → Prop) (v3 : Int) (t0 : Int) (t1 : Int) (σ : ZS) : Prop :=
  (0 ≤ t1 ∧ t1 < 20736) ∧
  (t0 = 0 ∨ t0 = 1) ∧
  ∀ σ2 : ZS, σ2 = zst σ 73 t1 t0 →
  C58 (v3 + 1, σ2)
def wbc_X1_load_58 (post : Int → ZS → Prop) (C58 : Int × ZS → Prop) : Int × ZS → Prop := fun (v3, σ) =>
  (2 ≤ (σ 0 17) ∧ (σ 0 17) < 32) ∧
  (InR v3) ∧
  (InR ((σ ((σ 0 17).toNat) 1) * (σ ((σ 0 17).toNat) 2))) ∧
  ((((σ ((σ 0 17).toNat) 1) * (σ ((σ 0 17).toNat) 2)) ≤ v3 →
    post 1 σ
  ) ∧
  (v3 < ((σ ((σ 0 17).toNat) 1) * (σ ((σ 0 17).toNat) 2)) →
    (0 ≤ v3) ∧
    (InR (σ ((σ 0 17).toNat) 2)) ∧
    (0 < (σ ((σ 0 17).toNat) 2)) ∧
    (0 ≤ (v3 / 8) ∧ (v3 / 8) < 3200) ∧
    (InR ((zshr (σ 71 (v3 / 8)) (7 - (v3 % 8))) % 2)) ∧
    ((¬ ((zshr (σ 71 (v3 / 8)) (7 - (v3 % 8))) % 2) = 1 →
      wc_X1_load_132 C58 post v3 0 (((v3 / (σ ((σ 0 17).toNat) 2)) * 144) + (v3 % (σ ((σ 0 17).toNat) 2))) σ
    ) ∧
    (((zshr (σ 71 (v3 / 8)) (7 - (v3 % 8))) % 2) = 1 →
      wc_X1_load_132 C58 post v3 1 (((v3 / (σ ((σ 0 17).toNat) 2)) * 144) + (v3 % (σ ((σ 0 17).toNat) 2))) σ
    ))
  ))
def wc_X1_load (a0 : Int) (σ : ZS) (post : Int → ZS → Prop) : Prop :=
  wc_X1_take σ (fun r2 σ1 => 
  (InR a0) ∧
  ((a0 < 0 →
    post 0 σ1
  ) ∧
  (0 ≤ a0 →
    ((30 ≤ a0 →
      post 0 σ1
    ) ∧
    (a0 < 30 →
      (0 ≤ a0 ∧ a0 < 30) ∧
      (InR (((σ1 (2 + a0.toNat) 1) * (σ1 (2 + a0.toNat) 2)) + 7)) ∧
      (0 ≤ (((σ1 (2 + a0.toNat) 1) * (σ1 (2 + a0.toNat) 2)) + 7)) ∧
      (InR r2) ∧
      (InR ((((σ1 (2 + a0.toNat) 1) * (σ1 (2 + a0.toNat) 2)) + 7) / 8)) ∧
      ((r2 = ((((σ1 (2 + a0.toNat) 1) * (σ1 (2 + a0.toNat) 2)) + 7) / 8) →
        ∀ σ12 : ZS, σ12 = zst σ1 0 17 (2 + a0.toNat : Nat) →
        ∃ N : Nat, zfix (wbc_X1_load_58 post) N (0, σ12)
      ) ∧
      (¬ r2 = ((((σ1 (2 + a0.toNat) 1) * (σ1 (2 + a0.toNat) 2)) + 7) / 8) →
        post 0 σ1
      ))
    ))
  )))
/- X1_letter -/
def wc_X1_letter (a0 : Int) (σ : ZS) (post : Int → ZS → Prop) : Prop :=
  (InR a0) ∧
  ((a0 < 0 →
    post (-1) σ
  ) ∧
  (0 ≤ a0 →
    (InR (σ 0 12)) ∧
    ((a0 < (σ 0 12) →
      (0 ≤ a0 ∧ a0 < 3200) ∧
      post ((σ 72 a0) % 256) σ
    ) ∧
    ((σ 0 12) ≤ a0 →
      post (-1) σ
    ))
  ))
/- X1_isModule -/
def wc_X1_isModule (a0 : Int) (a1 : Int) (σ : ZS) (post : Int → ZS → Prop) : Prop :=
  (((σ 0 17) < 0 →
    post 0 σ
  ) ∧
  (0 ≤ (σ 0 17) →
    (InR a0) ∧
    ((a0 < 0 →
      post 0 σ
    ) ∧
    (0 ≤ a0 →
      (InR a1) ∧
      ((a1 < 0 →
        post 0 σ
      ) ∧
      (0 ≤ a1 →
        (2 ≤ (σ 0 17) ∧ (σ 0 17) < 32) ∧
        (InR (σ ((σ 0 17).toNat) 1)) ∧
        (((σ ((σ 0 17).toNat) 1) ≤ a0 →
          post 0 σ
        ) ∧
        (a0 < (σ ((σ 0 17).toNat) 1) →
          (InR (σ ((σ 0 17).toNat) 2)) ∧
          (((σ ((σ 0 17).toNat) 2) ≤ a1 →
            post 0 σ
          ) ∧
          (a1 < (σ ((σ 0 17).toNat) 2) →
            post 1 σ
          ))
        ))
      ))
    ))
  ))
/- X1_module -/
def wc_X1_module (a0 : Int) (a1 : Int) (σ : ZS) (post : Int → ZS → Prop) : Prop :=
  wc_X1_isModule a0 a1 σ (fun r2 σ1 => r2 = 0 ∨ r2 = 1 →
  ((¬ r2 = 0 →
    (0 ≤ ((a0 * 144) + a1) ∧ ((a0 * 144) + a1) < 20736) ∧
    (InR (σ1 73 ((a0 * 144) + a1))) ∧
    (((σ1 73 ((a0 * 144) + a1)) = 0 →
      post 0 σ1
    ) ∧
    (¬ (σ1 73 ((a0 * 144) + a1)) = 0 →
      post 1 σ1
    ))
  ) ∧
  (r2 = 0 →
    post (-1) σ1
  )))
/- X1_flip -/
def wc_X1_flip_42 (post : Int → ZS → Prop) (t0 : Int) (t1 : Int) (σ : ZS) : Prop :=
  (0 ≤ t1 ∧ t1 < 20736) ∧
  (t0 = 0 ∨ t0 = 1) ∧
  ∀ σ2 : ZS, σ2 = zst σ 73 t1 t0 →
  post 1 σ2
def wc_X1_flip (a0 : Int) (a1 : Int) (σ : ZS) (post : Int → ZS → Prop) : Prop :=
  wc_X1_isModule a0 a1 σ (fun r2 σ1 => r2 = 0 ∨ r2 = 1 →
  ((¬ r2 = 0 →
    (0 ≤ ((a0 * 144) + a1) ∧ ((a0 * 144) + a1) < 20736) ∧
    (InR (σ1 73 ((a0 * 144) + a1))) ∧
    ((¬ (σ1 73 ((a0 * 144) + a1)) = 0 →
      wc_X1_flip_42 post 0 ((a0 * 144) + a1) σ1
    ) ∧
    ((σ1 73 ((a0 * 144) + a1)) = 0 →
      wc_X1_flip_42 post 1 ((a0 * 144) + a1) σ1
    ))
  ) ∧
  (r2 = 0 →
    post 0 σ1
  )))
/- X1_size -/
def wc_X1_size (a0 : Int) (a1 : Int) (σ : ZS) (post : Int → ZS → Prop) : Prop :=
  (InR a0) ∧
  ((a0 < 0 →
    post (-1) σ
  ) ∧
  (0 ≤ a0 →
    ((a0 < 30 →
      (0 ≤ a0 ∧ a0 < 30) ∧
      (InR a1) ∧
      ((a1 = 0 →
        post (σ (2 + a0.toNat) 1) σ
      )) ∧
      ((a1 = 1 →
        post (σ (2 + a0.toNat) 2) σ
      )) ∧
      ((a1 = 2 →
        post (σ (2 + a0.toNat) 9) σ
      )) ∧
      ((a1 = 3 →
        post (σ (2 + a0.toNat) 8) σ
      )) ∧
      ((a1 = 4 →
        post (σ (2 + a0.toNat) 10) σ
      )) ∧
      ((a1 = 5 →
        post (σ (2 + a0.toNat) 5) σ
      )) ∧
      ((a1 = 6 →
        post (σ (2 + a0.toNat) 6) σ
      )) ∧
      ((a1 < 0 ∨ 6 < a1) →
        post (-1) σ
      )
    ) ∧
    (30 ≤ a0 →
      post (-1) σ
    ))
  ))
