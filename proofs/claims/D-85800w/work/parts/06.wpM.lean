/-! what each method of the plain form asks, over whole numbers (printed by tools/walkgen.py) -/
/- X13_thrown -/
def wm_thrown (σ : ZS) (post : Int → ZS → Prop) : Prop :=
  post (σ 0 0) σ
/- X13_planeColumns -/
def wm_planeColumns (a0 : Int) (σ : ZS) (post : Int → ZS → Prop) : Prop :=
  (0 ≤ a0 ∧ a0 < 30) ∧
  post ((σ 2 a0) - (2 * (σ 6 a0))) σ
/- X13_planeRows -/
def wm_planeRows (a0 : Int) (σ : ZS) (post : Int → ZS → Prop) : Prop :=
  (0 ≤ a0 ∧ a0 < 30) ∧
  post ((σ 1 a0) - (2 * (σ 5 a0))) σ
/- X13_allOf -/
def wm_allOf (a0 : Int) (σ : ZS) (post : Int → ZS → Prop) : Prop :=
  wm_planeRows a0 σ (fun r2 σ1 => 
  wm_planeColumns a0 σ1 (fun r4 σ3 => 
  (InR (r2 * r4)) ∧
  (0 ≤ (r2 * r4)) ∧
  post ((r2 * r4) / 8) σ3))
/- X13_dataOf -/
def wm_dataOf (a0 : Int) (σ : ZS) (post : Int → ZS → Prop) : Prop :=
  wm_allOf a0 σ (fun r2 σ1 => 
  (0 ≤ a0 ∧ a0 < 30) ∧
  post (r2 - (σ1 3 a0)) σ1)
/- X13_isSymbol -/
def wm_isSymbol (a0 : Int) (σ : ZS) (post : Int → ZS → Prop) : Prop :=
  (InR a0) ∧
  ((a0 < 0 →
    post 0 σ
  ) ∧
  (0 ≤ a0 →
    ((30 ≤ a0 →
      post 0 σ
    ) ∧
    (a0 < 30 →
      post 1 σ
    ))
  ))
/- X13_size -/
def wm_size (a0 : Int) (a1 : Int) (σ : ZS) (post : Int → ZS → Prop) : Prop :=
  ∀ σ1 : ZS, σ1 = zst σ 0 0 0 →
  wm_isSymbol a0 σ1 (fun r3 σ2 => r3 = 0 ∨ r3 = 1 →
  ((¬ r3 = 0 →
    (InR a1) ∧
    ((a1 = 0 →
      (0 ≤ a0 ∧ a0 < 30) ∧
      post (σ2 1 a0) σ2
    )) ∧
    ((a1 = 1 →
      (0 ≤ a0 ∧ a0 < 30) ∧
      post (σ2 2 a0) σ2
    )) ∧
    ((a1 = 2 →
      wm_dataOf a0 σ2 (fun r10 σ9 => 
      post r10 σ9)
    )) ∧
    ((a1 = 3 →
      (0 ≤ a0 ∧ a0 < 30) ∧
      post (σ2 3 a0) σ2
    )) ∧
    ((a1 = 4 →
      (0 ≤ a0 ∧ a0 < 30) ∧
      post (σ2 4 a0) σ2
    )) ∧
    ((a1 = 5 →
      wm_planeRows a0 σ2 (fun r14 σ13 => 
      post r14 σ13)
    )) ∧
    ((a1 = 6 →
      wm_planeColumns a0 σ2 (fun r16 σ15 => 
      post r16 σ15)
    )) ∧
    ((a1 < 0 ∨ 6 < a1) →
      post (-1) σ2
    )
  ) ∧
  (r3 = 0 →
    post (-1) σ2
  )))
/- X13_feed -/
def wm_feed_64 (C33 : Int × Int64 × Int64 × Int64 × Int × ZS → Prop) (post : Int → ZS → Prop) (v1 : Int) (v2 : Int64) (v4 : Int64) (v6 : Int64) (v8 : Int) (t0 : Int64) (σ : ZS) : Prop :=
  (InR v8) ∧
  (0 ≤ v8) ∧
  (0 ≤ (σ 0 10) ∧ (σ 0 10) < 3200) ∧
  ∀ σ4 : ZS, σ4 = zst σ 9 (σ 0 10) ((zl2i (zlshr t0 (8 * (v8 % 8)))) % 256) →
  ∀ σ5 : ZS, σ5 = zst σ4 0 10 ((σ4 0 10) + 1) →
  C33 (v1, v2, v4, v6, v8 + 1, σ5)
def wbm_feed_33 (post : Int → ZS → Prop) (C33 : Int × Int64 × Int64 × Int64 × Int × ZS → Prop) : Int × Int64 × Int64 × Int64 × Int × ZS → Prop := fun (v1, v2, v4, v6, v8, σ) =>
  (InR v8) ∧
  (InR v1) ∧
  ((v1 ≤ v8 →
    post (σ 0 10) σ
  ) ∧
  (v8 < v1 →
    ((8 ≤ v8 →
      ((16 ≤ v8 →
        wm_feed_64 C33 post v1 v2 v4 v6 v8 v6 σ
      ) ∧
      (v8 < 16 →
        wm_feed_64 C33 post v1 v2 v4 v6 v8 v4 σ
      ))
    ) ∧
    (v8 < 8 →
      wm_feed_64 C33 post v1 v2 v4 v6 v8 v2 σ
    ))
  ))
def wm_feed (a0 : Int) (a1 : Int64) (a2 : Int64) (a3 : Int64) (σ : ZS) (post : Int → ZS → Prop) : Prop :=
  ∀ σ1 : ZS, σ1 = zst σ 0 0 0 →
  (InR a0) ∧
  ((a0 < 1 →
    post (-1) σ1
  ) ∧
  (1 ≤ a0 →
    ((24 < a0 →
      post (-1) σ1
    ) ∧
    (a0 ≤ 24 →
      (InR ((σ1 0 10) + a0)) ∧
      ((((σ1 0 10) + a0) ≤ 3200 →
        ∃ N : Nat, zfix (wbm_feed_33 post) N (a0, a1, a2, a3, 0, σ1)
      ) ∧
      (3200 < ((σ1 0 10) + a0) →
        post (-1) σ1
      ))
    ))
  ))
/- X13_isOf -/
def wm_isOf (a0 : Int) (a1 : Int) (a2 : Int) (a3 : Int) (a4 : Int) (σ : ZS) (post : Int → ZS → Prop) : Prop :=
  (InR a0) ∧
  ((a0 < 0 →
    post 0 σ
  ) ∧
  (0 ≤ a0 →
    (InR a1) ∧
    ((a1 < 0 →
      post 0 σ
    ) ∧
    (0 ≤ a1 →
      (InR a3) ∧
      ((a3 ≤ a1 →
        post 0 σ
      ) ∧
      (a1 < a3 →
        (InR a2) ∧
        ((a2 < 0 →
          post 0 σ
        ) ∧
        (0 ≤ a2 →
          (InR a4) ∧
          ((a4 ≤ a2 →
            post 0 σ
          ) ∧
          (a2 < a4 →
            post 1 σ
          ))
        ))
      ))
    ))
  ))
/- X13_isModule -/
def wm_isModule (a0 : Int) (a1 : Int) (σ : ZS) (post : Int → ZS → Prop) : Prop :=
  (InR (σ 0 18)) ∧
  (((σ 0 18) < 0 →
    post 0 σ
  ) ∧
  (0 ≤ (σ 0 18) →
    (0 ≤ (σ 0 18) ∧ (σ 0 18) < 30) ∧
    wm_isOf (σ 0 18) a0 a1 (σ 1 (σ 0 18)) (σ 2 (σ 0 18)) σ (fun r5 σ4 => r5 = 0 ∨ r5 = 1 →
    ((r5 = 0 →
      post 0 σ4
    ) ∧
    (¬ r5 = 0 →
      post 1 σ4
    )))
  ))
/- X13_module -/
def wm_module (a0 : Int) (a1 : Int) (σ : ZS) (post : Int → ZS → Prop) : Prop :=
  ∀ σ1 : ZS, σ1 = zst σ 0 0 0 →
  wm_isModule a0 a1 σ1 (fun r3 σ2 => r3 = 0 ∨ r3 = 1 →
  ((¬ r3 = 0 →
    (0 ≤ ((144 * a0) + a1) ∧ ((144 * a0) + a1) < 20736) ∧
    (InR (σ2 12 ((144 * a0) + a1))) ∧
    (((σ2 12 ((144 * a0) + a1)) = 0 →
      post 0 σ2
    ) ∧
    (¬ (σ2 12 ((144 * a0) + a1)) = 0 →
      post 1 σ2
    ))
  ) ∧
  (r3 = 0 →
    post (-1) σ2
  )))
/- X13_flip -/
def wm_flip_47 (post : Int → ZS → Prop) (t0 : Int) (t1 : Int) (σ : ZS) : Prop :=
  (0 ≤ t1 ∧ t1 < 20736) ∧
  (t0 = 0 ∨ t0 = 1) ∧
  ∀ σ2 : ZS, σ2 = zst σ 12 t1 t0 →
  post 1 σ2
def wm_flip (a0 : Int) (a1 : Int) (σ : ZS) (post : Int → ZS → Prop) : Prop :=
  ∀ σ1 : ZS, σ1 = zst σ 0 0 0 →
  wm_isModule a0 a1 σ1 (fun r3 σ2 => r3 = 0 ∨ r3 = 1 →
  ((¬ r3 = 0 →
    (0 ≤ ((144 * a0) + a1) ∧ ((144 * a0) + a1) < 20736) ∧
    (InR (σ2 12 ((144 * a0) + a1))) ∧
    ((¬ (σ2 12 ((144 * a0) + a1)) = 0 →
      wm_flip_47 post 0 ((144 * a0) + a1) σ2
    ) ∧
    ((σ2 12 ((144 * a0) + a1)) = 0 →
      wm_flip_47 post 1 ((144 * a0) + a1) σ2
    ))
  ) ∧
  (r3 = 0 →
    post 0 σ2
  )))
/- X13_isCodeword -/
def wm_isCodeword (a0 : Int) (σ : ZS) (post : Int → ZS → Prop) : Prop :=
  (InR (σ 0 18)) ∧
  (((σ 0 18) < 0 →
    post 0 σ
  ) ∧
  (0 ≤ (σ 0 18) →
    (InR a0) ∧
    ((a0 < 0 →
      post 0 σ
    ) ∧
    (0 ≤ a0 →
      wm_allOf (σ 0 18) σ (fun r6 σ5 => 
      (InR r6) ∧
      ((r6 ≤ a0 →
        post 0 σ5
      ) ∧
      (a0 < r6 →
        post 1 σ5
      )))
    ))
  ))
/- X13_moduleAt -/
def wm_moduleAt (a0 : Int) (a1 : Int) (a2 : Int) (σ : ZS) (post : Int → ZS → Prop) : Prop :=
  (0 ≤ a0 ∧ a0 < 30) ∧
  (InR (σ 0 15)) ∧
  (0 ≤ (σ 0 15)) ∧
  (InR (σ 5 a0)) ∧
  (0 < (σ 5 a0)) ∧
  ∀ v4_6 : Int, v4_6 = (σ 0 15) / (σ 5 a0) →
  (InR (σ 0 16)) ∧
  (0 ≤ (σ 0 16)) ∧
  (InR (σ 6 a0)) ∧
  (0 < (σ 6 a0)) ∧
  ∀ v5_11 : Int, v5_11 = (σ 0 16) / (σ 6 a0) →
  (InR a1) ∧
  (0 ≤ a1) ∧
  (InR v4_6) ∧
  (0 < v4_6) ∧
  (InR a2) ∧
  (0 ≤ a2) ∧
  (InR v5_11) ∧
  (0 < v5_11) ∧
  post ((((144 * ((1 + a1) + (2 * (a1 / v4_6)))) + 1) + a2) + (2 * (a2 / v5_11))) σ
/- X13_lie -/
def wm_lie (a0 : Int) (a1 : Int) (a2 : Int) (σ : ZS) (post : ZS → Prop) : Prop :=
  (0 ≤ (((σ 0 16) * a0) + a1) ∧ (((σ 0 16) * a0) + a1) < 17424) ∧
  ∀ σ2 : ZS, σ2 = zst σ 10 (((σ 0 16) * a0) + a1) (((8 * (σ 0 17)) + a2) + 1) →
  wm_moduleAt (σ2 0 12) a0 a1 σ2 (fun r4 σ3 => 
  (0 ≤ ((8 * (σ2 0 17)) + a2) ∧ ((8 * (σ2 0 17)) + a2) < 17424) ∧
  ∀ σ6 : ZS, σ6 = zst σ3 11 ((8 * (σ2 0 17)) + a2) r4 →
  post σ6)
/- X13_corner -/
def wm_corner_126 (C3 : Int × Int × Int × Int × Int × ZS → Prop) (post : ZS → Prop) (v1 : Int) (v2 : Int) (v3 : Int) (v4 : Int) (v5 : Int) (t0 : Int) (t1 : Int) (σ : ZS) : Prop :=
  wm_lie t1 t0 v5 σ (fun σ1 => 
  C3 (v1, v2, v3, v4, v5 + 1, σ1))
def wm_corner_104 (C3 : Int × Int × Int × Int × Int × ZS → Prop) (post : ZS → Prop) (v1 : Int) (v2 : Int) (v3 : Int) (v4 : Int) (v5 : Int) (v9 : Int) (t0 : Int) (σ : ZS) : Prop :=
  (InR v9) ∧
  ((v9 ≤ 7 →
    wm_corner_126 C3 post v1 v2 v3 v4 v5 v9 t0 σ
  ) ∧
  (7 < v9 →
    wm_corner_126 C3 post v1 v2 v3 v4 v5 (((σ 0 16) + v9) - 16) t0 σ
  ))
def wm_corner_66 (C3 : Int × Int × Int × Int × Int × ZS → Prop) (post : ZS → Prop) (v1 : Int) (v2 : Int) (v3 : Int) (v4 : Int) (v5 : Int) (t0 : Int) (σ : ZS) : Prop :=
  (InR t0) ∧
  ∀ v8_2 : Int, v8_2 = t0 / 16 →
  ∀ v9_3 : Int, v9_3 = t0 % 16 →
  (InR v8_2) ∧
  ((v8_2 ≤ 7 →
    wm_corner_104 C3 post v1 v2 v3 v4 v5 v9_3 v8_2 σ
  ) ∧
  (7 < v8_2 →
    wm_corner_104 C3 post v1 v2 v3 v4 v5 v9_3 (((σ 0 15) + v8_2) - 16) σ
  ))
def wm_corner_43 (C3 : Int × Int × Int × Int × Int × ZS → Prop) (post : ZS → Prop) (v1 : Int) (v2 : Int) (v3 : Int) (v4 : Int) (v5 : Int) (t0 : Int) (σ : ZS) : Prop :=
  (InR v5) ∧
  (0 ≤ v5) ∧
  (InR (v5 % 2)) ∧
  ((¬ (v5 % 2) = 0 →
    wm_corner_66 C3 post v1 v2 v3 v4 v5 (t0 % 256) σ
  ) ∧
  ((v5 % 2) = 0 →
    (InR t0) ∧
    wm_corner_66 C3 post v1 v2 v3 v4 v5 (t0 / 256) σ
  ))
def wbm_corner_3 (post : ZS → Prop) (C3 : Int × Int × Int × Int × Int × ZS → Prop) : Int × Int × Int × Int × Int × ZS → Prop := fun (v1, v2, v3, v4, v5, σ) =>
  (InR v5) ∧
  ((8 ≤ v5 →
    ∀ σ3 : ZS, σ3 = zst σ 0 17 ((σ 0 17) + 1) →
    post σ3
  ) ∧
  (v5 < 8 →
    ((2 ≤ v5 →
      ((4 ≤ v5 →
        ((6 ≤ v5 →
          wm_corner_43 C3 post v1 v2 v3 v4 v5 v4 σ
        ) ∧
        (v5 < 6 →
          wm_corner_43 C3 post v1 v2 v3 v4 v5 v3 σ
        ))
      ) ∧
      (v5 < 4 →
        wm_corner_43 C3 post v1 v2 v3 v4 v5 v2 σ
      ))
    ) ∧
    (v5 < 2 →
      wm_corner_43 C3 post v1 v2 v3 v4 v5 v1 σ
    ))
  ))
def wm_corner (a0 : Int) (a1 : Int) (a2 : Int) (a3 : Int) (σ : ZS) (post : ZS → Prop) : Prop :=
  ∃ N : Nat, zfix (wbm_corner_3 post) N (a0, a1, a2, a3, 0, σ)
/- X13_corners -/
def wm_corners_102 (post : ZS → Prop) (v1 : Int) (v2 : Int) (σ : ZS) : Prop :=
  (InR v1) ∧
  (InR ((σ 0 15) + 4)) ∧
  ((¬ v1 = ((σ 0 15) + 4) →
    post σ
  ) ∧
  (v1 = ((σ 0 15) + 4) →
    (InR v2) ∧
    ((¬ v2 = 2 →
      post σ
    ) ∧
    (v2 = 2 →
      (InR (σ 0 16)) ∧
      (0 ≤ (σ 0 16)) ∧
      (InR ((σ 0 16) % 8)) ∧
      ((¬ ((σ 0 16) % 8) = 0 →
        post σ
      ) ∧
      (((σ 0 16) % 8) = 0 →
        wm_corner 61695 3342 3869 7711 σ (fun σ10 => 
        post σ10)
      ))
    ))
  ))
def wm_corners_63 (post : ZS → Prop) (v1 : Int) (v2 : Int) (σ : ZS) : Prop :=
  (InR v1) ∧
  (InR ((σ 0 15) - 2)) ∧
  ((¬ v1 = ((σ 0 15) - 2) →
    wm_corners_102 post v1 v2 σ
  ) ∧
  (v1 = ((σ 0 15) - 2) →
    (InR v2) ∧
    ((¬ v2 = 0 →
      wm_corners_102 post v1 v2 σ
    ) ∧
    (v2 = 0 →
      (InR (σ 0 16)) ∧
      (0 ≤ (σ 0 16)) ∧
      (InR ((σ 0 16) % 8)) ∧
      ((¬ ((σ 0 16) % 8) = 4 →
        wm_corners_102 post v1 v2 σ
      ) ∧
      (((σ 0 16) % 8) = 4 →
        wm_corner 53472 61454 3871 12095 σ (fun σ10 => 
        wm_corners_102 post v1 v2 σ10)
      ))
    ))
  ))
def wm_corners_26 (post : ZS → Prop) (v1 : Int) (v2 : Int) (σ : ZS) : Prop :=
  (InR v1) ∧
  (InR ((σ 0 15) - 2)) ∧
  ((¬ v1 = ((σ 0 15) - 2) →
    wm_corners_63 post v1 v2 σ
  ) ∧
  (v1 = ((σ 0 15) - 2) →
    (InR v2) ∧
    ((¬ v2 = 0 →
      wm_corners_63 post v1 v2 σ
    ) ∧
    (v2 = 0 →
      (InR (σ 0 16)) ∧
      (0 ≤ (σ 0 16)) ∧
      (InR ((σ 0 16) % 4)) ∧
      ((((σ 0 16) % 4) = 0 →
        wm_corners_63 post v1 v2 σ
      ) ∧
      (¬ ((σ 0 16) % 4) = 0 →
        wm_corner 53472 61452 3342 3871 σ (fun σ10 => 
        wm_corners_63 post v1 v2 σ10)
      ))
    ))
  ))
def wm_corners (a0 : Int) (a1 : Int) (σ : ZS) (post : ZS → Prop) : Prop :=
  (InR a0) ∧
  (InR (σ 0 15)) ∧
  ((¬ a0 = (σ 0 15) →
    wm_corners_26 post a0 a1 σ
  ) ∧
  (a0 = (σ 0 15) →
    (InR a1) ∧
    ((¬ a1 = 0 →
      wm_corners_26 post a0 a1 σ
    ) ∧
    (a1 = 0 →
      wm_corner 61681 61966 3871 12095 σ (fun σ6 => 
      wm_corners_26 post a0 a1 σ6)
    ))
  ))
/- X13_isFree -/
def wm_isFree (a0 : Int) (a1 : Int) (σ : ZS) (post : Int → ZS → Prop) : Prop :=
  (0 ≤ (((σ 0 16) * a0) + a1) ∧ (((σ 0 16) * a0) + a1) < 17424) ∧
  (InR (σ 10 (((σ 0 16) * a0) + a1))) ∧
  ((¬ (σ 10 (((σ 0 16) * a0) + a1)) = 0 →
    post 0 σ
  ) ∧
  ((σ 10 (((σ 0 16) * a0) + a1)) = 0 →
    post 1 σ
  ))
/- X13_round -/
def wm_round_66 (post : ZS → Prop) (v3 : Int) (v4 : Int) (v5 : Int) (σ : ZS) : Prop :=
  wm_lie v4 v5 v3 σ (fun σ1 => 
  post σ1)
def wm_round_36 (post : ZS → Prop) (v3 : Int) (v4 : Int) (v5 : Int) (σ : ZS) : Prop :=
  (InR v5) ∧
  ((0 ≤ v5 →
    wm_round_66 post v3 v4 v5 σ
  ) ∧
  (v5 < 0 →
    ∀ v5_3 : Int, v5_3 = v5 + (σ 0 16) →
    (InR ((σ 0 16) + 4)) ∧
    (0 ≤ ((σ 0 16) + 4)) ∧
    ∀ v4_6 : Int, v4_6 = v4 + (4 - (((σ 0 16) + 4) % 8)) →
    wm_round_66 post v3 v4_6 v5_3 σ
  ))
def wm_round (a0 : Int) (a1 : Int) (a2 : Int) (σ : ZS) (post : ZS → Prop) : Prop :=
  (InR a0) ∧
  ((0 ≤ a0 →
    wm_round_36 post a2 a0 a1 σ
  ) ∧
  (a0 < 0 →
    ∀ v4_3 : Int, v4_3 = a0 + (σ 0 15) →
    (InR ((σ 0 15) + 4)) ∧
    (0 ≤ ((σ 0 15) + 4)) ∧
    ∀ v5_6 : Int, v5_6 = a1 + (4 - (((σ 0 15) + 4) % 8)) →
    wm_round_36 post a2 v4_3 v5_6 σ
  ))
/- X13_utah -/
def wm_utah (a0 : Int) (a1 : Int) (σ : ZS) (post : ZS → Prop) : Prop :=
  wm_round (a0 - 2) (a1 - 2) 0 σ (fun σ1 => 
  wm_round (a0 - 2) (a1 - 1) 1 σ1 (fun σ2 => 
  wm_round (a0 - 1) (a1 - 2) 2 σ2 (fun σ3 => 
  wm_round (a0 - 1) (a1 - 1) 3 σ3 (fun σ4 => 
  wm_round (a0 - 1) a1 4 σ4 (fun σ5 => 
  wm_round a0 (a1 - 2) 5 σ5 (fun σ6 => 
  wm_round a0 (a1 - 1) 6 σ6 (fun σ7 => 
  wm_round a0 a1 7 σ7 (fun σ8 => 
  ∀ σ9 : ZS, σ9 = zst σ8 0 17 ((σ8 0 17) + 1) →
  post σ9))))))))
/- X13_map -/
def wm_map_169 (C69 : Int × Int × ZS → Prop) (C142 : Int × Int × ZS → Prop) (post : ZS → Prop) (v2 : Int) (v3 : Int) (σ : ZS) : Prop :=
  (InR (v2 + 2)) ∧
  (InR (σ 0 15)) ∧
  (((σ 0 15) ≤ (v2 + 2) →
    C69 ((v2 + 2) + 3, (v3 + (-2)) + 1, σ)
  ) ∧
  ((v2 + 2) < (σ 0 15) →
    (InR (v3 + (-2))) ∧
    ((0 ≤ (v3 + (-2)) →
      C142 (v2 + 2, v3 + (-2), σ)
    ) ∧
    ((v3 + (-2)) < 0 →
      C69 ((v2 + 2) + 3, (v3 + (-2)) + 1, σ)
    ))
  ))
def wbm_map_142 (C69 : Int × Int × ZS → Prop) (post : ZS → Prop) (C142 : Int × Int × ZS → Prop) : Int × Int × ZS → Prop := fun (v2, v3, σ) =>
  (InR v2) ∧
  ((v2 < 0 →
    wm_map_169 C69 C142 post v2 v3 σ
  ) ∧
  (0 ≤ v2 →
    (InR v3) ∧
    (InR (σ 0 16)) ∧
    (((σ 0 16) ≤ v3 →
      wm_map_169 C69 C142 post v2 v3 σ
    ) ∧
    (v3 < (σ 0 16) →
      wm_isFree v2 v3 σ (fun r7 σ6 => r7 = 0 ∨ r7 = 1 →
      ((r7 = 0 →
        wm_map_169 C69 C142 post v2 v3 σ6
      ) ∧
      (¬ r7 = 0 →
        wm_utah v2 v3 σ6 (fun σ10 => 
        wm_map_169 C69 C142 post v2 v3 σ10)
      )))
    ))
  ))
def wm_map_136 (C69 : Int × Int × ZS → Prop) (post : ZS → Prop) (v2 : Int) (v3 : Int) (σ : ZS) : Prop :=
  ∃ N : Nat, zfix (wbm_map_142 C69 post) N (v2 + 1, v3 + 3, σ)
def wm_map_118 (C69 : Int × Int × ZS → Prop) (C91 : Int × Int × ZS → Prop) (post : ZS → Prop) (v2 : Int) (v3 : Int) (σ : ZS) : Prop :=
  (InR (v2 + (-2))) ∧
  (((v2 + (-2)) < 0 →
    wm_map_136 C69 post (v2 + (-2)) (v3 + 2) σ
  ) ∧
  (0 ≤ (v2 + (-2)) →
    (InR (v3 + 2)) ∧
    (InR (σ 0 16)) ∧
    (((v3 + 2) < (σ 0 16) →
      C91 (v2 + (-2), v3 + 2, σ)
    ) ∧
    ((σ 0 16) ≤ (v3 + 2) →
      wm_map_136 C69 post (v2 + (-2)) (v3 + 2) σ
    ))
  ))
def wbm_map_91 (C69 : Int × Int × ZS → Prop) (post : ZS → Prop) (C91 : Int × Int × ZS → Prop) : Int × Int × ZS → Prop := fun (v2, v3, σ) =>
  (InR v2) ∧
  (InR (σ 0 15)) ∧
  (((σ 0 15) ≤ v2 →
    wm_map_118 C69 C91 post v2 v3 σ
  ) ∧
  (v2 < (σ 0 15) →
    (InR v3) ∧
    ((v3 < 0 →
      wm_map_118 C69 C91 post v2 v3 σ
    ) ∧
    (0 ≤ v3 →
      wm_isFree v2 v3 σ (fun r7 σ6 => r7 = 0 ∨ r7 = 1 →
      ((r7 = 0 →
        wm_map_118 C69 C91 post v2 v3 σ6
      ) ∧
      (¬ r7 = 0 →
        wm_utah v2 v3 σ6 (fun σ10 => 
        wm_map_118 C69 C91 post v2 v3 σ10)
      )))
    ))
  ))
def wm_map_85 (C69 : Int × Int × ZS → Prop) (post : ZS → Prop) (v2 : Int) (v3 : Int) (σ : ZS) : Prop :=
  wm_corners v2 v3 σ (fun σ1 => 
  ∃ N : Nat, zfix (wbm_map_91 C69 post) N (v2, v3, σ1))
def wbm_map_69 (post : ZS → Prop) (C69 : Int × Int × ZS → Prop) : Int × Int × ZS → Prop := fun (v2, v3, σ) =>
  (InR v2) ∧
  (InR (σ 0 15)) ∧
  ((v2 < (σ 0 15) →
    wm_map_85 C69 post v2 v3 σ
  ) ∧
  ((σ 0 15) ≤ v2 →
    (InR v3) ∧
    (InR (σ 0 16)) ∧
    (((σ 0 16) ≤ v3 →
      post σ
    ) ∧
    (v3 < (σ 0 16) →
      wm_map_85 C69 post v2 v3 σ
    ))
  ))
def wbm_map_34 (post : ZS → Prop) (C34 : Int × ZS → Prop) : Int × ZS → Prop := fun (v2, σ) =>
  (InR v2) ∧
  (InR ((σ 0 15) * (σ 0 16))) ∧
  ((((σ 0 15) * (σ 0 16)) ≤ v2 →
    ∀ σ4 : ZS, σ4 = zst σ 0 17 0 →
    ∃ N : Nat, zfix (wbm_map_69 post) N (4, 0, σ4)
  ) ∧
  (v2 < ((σ 0 15) * (σ 0 16)) →
    (0 ≤ v2 ∧ v2 < 17424) ∧
    ∀ σ6 : ZS, σ6 = zst σ 10 v2 0 →
    C34 (v2 + 1, σ6)
  ))
def wm_map (a0 : Int) (σ : ZS) (post : ZS → Prop) : Prop :=
  (InR (σ 0 12)) ∧
  (InR a0) ∧
  ((¬ (σ 0 12) = a0 →
    ∀ σ4 : ZS, σ4 = zst σ 0 12 a0 →
    wm_planeRows a0 σ4 (fun r6 σ5 => 
    ∀ σ7 : ZS, σ7 = zst σ5 0 15 r6 →
    wm_planeColumns a0 σ7 (fun r9 σ8 => 
    ∀ σ10 : ZS, σ10 = zst σ8 0 16 r9 →
    ∃ N : Nat, zfix (wbm_map_34 post) N (0, σ10)))
  ) ∧
  ((σ 0 12) = a0 →
    post σ
  ))
/- X13_read -/
def wm_read_37 (C4 : Int × Int × Int × ZS → Prop) (post : Int → ZS → Prop) (v1 : Int) (v3 : Int) (t0 : Int) (t1 : Int) (σ : ZS) : Prop :=
  ∀ v2_1 : Int, v2_1 = t1 + t0 →
  C4 (v1, v2_1, v3 + 1, σ)
def wbm_read_4 (post : Int → ZS → Prop) (C4 : Int × Int × Int × ZS → Prop) : Int × Int × Int × ZS → Prop := fun (v1, v2, v3, σ) =>
  (InR v3) ∧
  ((8 ≤ v3 →
    post v2 σ
  ) ∧
  (v3 < 8 →
    (0 ≤ ((8 * v1) + v3) ∧ ((8 * v1) + v3) < 17424) ∧
    (0 ≤ (σ 11 ((8 * v1) + v3)) ∧ (σ 11 ((8 * v1) + v3)) < 20736) ∧
    (InR (σ 12 (σ 11 ((8 * v1) + v3)))) ∧
    (((σ 12 (σ 11 ((8 * v1) + v3))) = 0 →
      wm_read_37 C4 post v1 v3 0 (2 * v2) σ
    ) ∧
    (¬ (σ 12 (σ 11 ((8 * v1) + v3))) = 0 →
      wm_read_37 C4 post v1 v3 1 (2 * v2) σ
    ))
  ))
def wm_read (a0 : Int) (σ : ZS) (post : Int → ZS → Prop) : Prop :=
  ∃ N : Nat, zfix (wbm_read_4 post) N (a0, 0, 0, σ)
/- X13_codeword -/
def wm_codeword (a0 : Int) (σ : ZS) (post : Int → ZS → Prop) : Prop :=
  ∀ σ1 : ZS, σ1 = zst σ 0 0 0 →
  wm_isCodeword a0 σ1 (fun r3 σ2 => r3 = 0 ∨ r3 = 1 →
  ((¬ r3 = 0 →
    wm_map (σ2 0 18) σ2 (fun σ6 => 
    wm_read a0 σ6 (fun r8 σ7 => 
    post r8 σ7))
  ) ∧
  (r3 = 0 →
    post (-1) σ2
  )))
/- X13_write -/
def wm_write_40 (C2 : Int × Int × Int × ZS → Prop) (post : ZS → Prop) (v1 : Int) (v2 : Int) (v3 : Int) (t0 : Int) (t1 : Int) (σ : ZS) : Prop :=
  (0 ≤ t1 ∧ t1 < 20736) ∧
  (t0 = 0 ∨ t0 = 1) ∧
  ∀ σ2 : ZS, σ2 = zst σ 12 t1 t0 →
  C2 (v1, v2, v3 + 1, σ2)
def wbm_write_2 (post : ZS → Prop) (C2 : Int × Int × Int × ZS → Prop) : Int × Int × Int × ZS → Prop := fun (v1, v2, v3, σ) =>
  (InR v3) ∧
  ((8 ≤ v3 →
    post σ
  ) ∧
  (v3 < 8 →
    (0 ≤ ((8 * v1) + v3) ∧ ((8 * v1) + v3) < 17424) ∧
    (InR ((zshr v2 (7 - v3)) % 2)) ∧
    ((¬ ((zshr v2 (7 - v3)) % 2) = 1 →
      wm_write_40 C2 post v1 v2 v3 0 (σ 11 ((8 * v1) + v3)) σ
    ) ∧
    (((zshr v2 (7 - v3)) % 2) = 1 →
      wm_write_40 C2 post v1 v2 v3 1 (σ 11 ((8 * v1) + v3)) σ
    ))
  ))
def wm_write (a0 : Int) (a1 : Int) (σ : ZS) (post : ZS → Prop) : Prop :=
  ∃ N : Nat, zfix (wbm_write_2 post) N (a0, a1, 0, σ)
/- X13_set -/
def wm_set (a0 : Int) (a1 : Int) (σ : ZS) (post : Int → ZS → Prop) : Prop :=
  ∀ σ1 : ZS, σ1 = zst σ 0 0 0 →
  wm_isCodeword a0 σ1 (fun r3 σ2 => r3 = 0 ∨ r3 = 1 →
  ((¬ r3 = 0 →
    wm_map (σ2 0 18) σ2 (fun σ6 => 
    wm_write a0 (a1 % 256) σ6 (fun σ7 => 
    post 1 σ7))
  ) ∧
  (r3 = 0 →
    post 0 σ2
  )))
/- X13_takeTape -/
def wm_takeTape (σ : ZS) (post : ZS → Prop) : Prop :=
  ∀ σ1 : ZS, σ1 = zst σ 0 11 (σ 0 10) →
  ∀ σ2 : ZS, σ2 = zst σ1 0 10 0 →
  post σ2
/- X13_load -/
def wm_load_117 (C53 : Int × Int × Int × ZS → Prop) (C66 : Int × Int × Int × Int × ZS → Prop) (post : Int → ZS → Prop) (v1 : Int) (v2 : Int) (v3 : Int) (v4 : Int) (t0 : Int) (t1 : Int) (σ : ZS) : Prop :=
  (0 ≤ t1 ∧ t1 < 20736) ∧
  (t0 = 0 ∨ t0 = 1) ∧
  ∀ σ2 : ZS, σ2 = zst σ 12 t1 t0 →
  C66 (v1, v2 + 1, v3, v4 + 1, σ2)
def wbm_load_66 (C53 : Int × Int × Int × ZS → Prop) (post : Int → ZS → Prop) (C66 : Int × Int × Int × Int × ZS → Prop) : Int × Int × Int × Int × ZS → Prop := fun (v1, v2, v3, v4, σ) =>
  (0 ≤ v1 ∧ v1 < 30) ∧
  (InR v4) ∧
  (InR (σ 2 v1)) ∧
  (((σ 2 v1) ≤ v4 →
    C53 (v1, v2, v3 + 1, σ)
  ) ∧
  (v4 < (σ 2 v1) →
    (InR v2) ∧
    (0 ≤ v2) ∧
    (0 ≤ (v2 / 8) ∧ (v2 / 8) < 3200) ∧
    (InR ((zshr (σ 9 (v2 / 8)) (7 - (v2 % 8))) % 2)) ∧
    ((¬ ((zshr (σ 9 (v2 / 8)) (7 - (v2 % 8))) % 2) = 1 →
      wm_load_117 C53 C66 post v1 v2 v3 v4 0 ((144 * v3) + v4) σ
    ) ∧
    (((zshr (σ 9 (v2 / 8)) (7 - (v2 % 8))) % 2) = 1 →
      wm_load_117 C53 C66 post v1 v2 v3 v4 1 ((144 * v3) + v4) σ
    ))
  ))
def wbm_load_53 (post : Int → ZS → Prop) (C53 : Int × Int × Int × ZS → Prop) : Int × Int × Int × ZS → Prop := fun (v1, v2, v3, σ) =>
  (0 ≤ v1 ∧ v1 < 30) ∧
  (InR v3) ∧
  (InR (σ 1 v1)) ∧
  (((σ 1 v1) ≤ v3 →
    post 1 σ
  ) ∧
  (v3 < (σ 1 v1) →
    ∃ N : Nat, zfix (wbm_load_66 C53 post) N (v1, v2, v3, 0, σ)
  ))
def wm_load (a0 : Int) (σ : ZS) (post : Int → ZS → Prop) : Prop :=
  ∀ σ1 : ZS, σ1 = zst σ 0 0 0 →
  wm_takeTape σ1 (fun σ2 => 
  wm_isSymbol a0 σ2 (fun r4 σ3 => r4 = 0 ∨ r4 = 1 →
  ((r4 = 0 →
    post 0 σ3
  ) ∧
  (¬ r4 = 0 →
    (0 ≤ a0 ∧ a0 < 30) ∧
    (InR (((σ3 1 a0) * (σ3 2 a0)) + 7)) ∧
    (0 ≤ (((σ3 1 a0) * (σ3 2 a0)) + 7)) ∧
    (InR (σ3 0 11)) ∧
    (InR ((((σ3 1 a0) * (σ3 2 a0)) + 7) / 8)) ∧
    (((σ3 0 11) = ((((σ3 1 a0) * (σ3 2 a0)) + 7) / 8) →
      ∀ σ13 : ZS, σ13 = zst σ3 0 18 a0 →
      ∃ N : Nat, zfix (wbm_load_53 post) N (a0, 0, 0, σ13)
    ) ∧
    (¬ (σ3 0 11) = ((((σ3 1 a0) * (σ3 2 a0)) + 7) / 8) →
      post 0 σ3
    ))
  ))))
/- X13_keepRead -/
def wbm_keepRead_10 (post : ZS → Prop) (C10 : Int × ZS → Prop) : Int × ZS → Prop := fun (v1, σ) =>
  (InR v1) ∧
  (InR (σ 0 31)) ∧
  (((σ 0 31) ≤ v1 →
    post σ
  ) ∧
  (v1 < (σ 0 31) →
    (0 ≤ v1 ∧ v1 < 4000) ∧
    ∀ σ5 : ZS, σ5 = zst σ 22 v1 (σ 21 v1) →
    C10 (v1 + 1, σ5)
  ))
def wm_keepRead (σ : ZS) (post : ZS → Prop) : Prop :=
  ∀ σ1 : ZS, σ1 = zst σ 0 33 (σ 0 31) →
  ∃ N : Nat, zfix (wbm_keepRead_10 post) N (0, σ1)
/- X13_tell -/
def wm_tell (a0 : Int) (σ : ZS) (post : ZS → Prop) : Prop :=
  (0 ≤ (σ 0 31) ∧ (σ 0 31) < 4000) ∧
  ∀ σ2 : ZS, σ2 = zst σ 21 (σ 0 31) a0 →
  ∀ σ3 : ZS, σ3 = zst σ2 0 31 ((σ2 0 31) + 1) →
  post σ3
/- X13_unmixed -/
def wm_unmixed (σ : ZS) (post : Int → ZS → Prop) : Prop :=
  (0 ≤ (σ 0 34) ∧ (σ 0 34) < 2178) ∧
  (InR (149 * ((σ 0 34) + 1))) ∧
  (0 ≤ (149 * ((σ 0 34) + 1))) ∧
  ∀ v1_4 : Int, v1_4 = (((σ 13 (σ 0 34)) - 1) - ((149 * ((σ 0 34) + 1)) % 255)) % 256 →
  ∀ σ5 : ZS, σ5 = zst σ 0 34 ((σ 0 34) + 1) →
  post v1_4 σ5
/- X13_base -/
def wbm_base_125 (post : ZS → Prop) (C125 : Int × Int × ZS → Prop) : Int × Int × ZS → Prop := fun (v2, v3, σ) =>
  (InR v3) ∧
  (InR v2) ∧
  ((v2 ≤ v3 →
    post σ
  ) ∧
  (v3 < v2 →
    (InR (σ 0 36)) ∧
    (((σ 0 36) = 0 →
      post σ
    ) ∧
    (¬ (σ 0 36) = 0 →
      wm_unmixed σ (fun r7 σ6 => 
      wm_tell r7 σ6 (fun σ8 => 
      C125 (v2, v3 + 1, σ8)))
    ))
  ))
def wm_base_120 (post : ZS → Prop) (v2 : Int) (t0 : Int) (σ : ZS) : Prop :=
  (t0 = 0 ∨ t0 = 1) ∧
  ∀ σ1 : ZS, σ1 = zst σ 0 36 t0 →
  ∃ N : Nat, zfix (wbm_base_125 post) N (v2, 0, σ1)
def wm_base_119 (post : ZS → Prop) (v2 : Int) (σ : ZS) : Prop :=
  wm_base_120 post v2 0 σ
def wm_base_94 (post : ZS → Prop) (v2 : Int) (σ : ZS) : Prop :=
  (InR (σ 0 36)) ∧
  (((σ 0 36) = 0 →
    wm_base_119 post v2 σ
  ) ∧
  (¬ (σ 0 36) = 0 →
    (InR v2) ∧
    (InR ((σ 0 35) - (σ 0 34))) ∧
    ((((σ 0 35) - (σ 0 34)) < v2 →
      wm_base_119 post v2 σ
    ) ∧
    (v2 ≤ ((σ 0 35) - (σ 0 34)) →
      wm_base_120 post v2 1 σ
    ))
  ))
def wm_base_93 (post : ZS → Prop) (t0 : Int) (σ : ZS) : Prop :=
  wm_base_94 post t0 σ
def wm_base_65 (post : ZS → Prop) (v1 : Int) (t0 : Int) (σ : ZS) : Prop :=
  (t0 = 0 ∨ t0 = 1) ∧
  ∀ σ1 : ZS, σ1 = zst σ 0 36 t0 →
  (InR (σ1 0 36)) ∧
  (((σ1 0 36) = 0 →
    wm_base_93 post 0 σ1
  ) ∧
  (¬ (σ1 0 36) = 0 →
    wm_unmixed σ1 (fun r6 σ5 => 
    wm_base_93 post ((250 * (v1 - 249)) + r6) σ5)
  ))
def wm_base (σ : ZS) (post : ZS → Prop) : Prop :=
  (InR (σ 0 34)) ∧
  (InR (σ 0 35)) ∧
  ((¬ (σ 0 34) = (σ 0 35) →
    wm_unmixed σ (fun r5 σ4 => 
    (InR r5) ∧
    ((¬ r5 = 0 →
      ((r5 ≤ 249 →
        wm_base_94 post r5 σ4
      ) ∧
      (249 < r5 →
        (InR (σ4 0 34)) ∧
        (InR (σ4 0 35)) ∧
        (((σ4 0 35) ≤ (σ4 0 34) →
          wm_base_65 post r5 0 σ4
        ) ∧
        ((σ4 0 34) < (σ4 0 35) →
          wm_base_65 post r5 1 σ4
        ))
      ))
    ) ∧
    (r5 = 0 →
      ∀ v2_12 : Int, v2_12 = (σ4 0 35) - (σ4 0 34) →
      wm_base_94 post v2_12 σ4
    )))
  ) ∧
  ((σ 0 34) = (σ 0 35) →
    ∀ σ13 : ZS, σ13 = zst σ 0 36 0 →
    post σ13
  ))
/- X13_pad -/
def wm_pad (a0 : Int) (σ : ZS) (post : Int → ZS → Prop) : Prop :=
  (InR (149 * a0)) ∧
  (0 ≤ (149 * a0)) ∧
  ∀ v1_3 : Int, v1_3 = 130 + ((149 * a0) % 253) →
  (InR v1_3) ∧
  ((v1_3 ≤ 254 →
    post v1_3 σ
  ) ∧
  (254 < v1_3 →
    post (v1_3 - 254) σ
  ))
/- X13_sixes -/
def wm_sixes_232 (C2 : Int × ZS → Prop) (post : ZS → Prop) (v1 : Int) (t0 : Int) (t1 : Int) (σ : ZS) : Prop :=
  ∀ σ1 : ZS, σ1 = zst σ 0 34 (t1 + t0) →
  C2 (v1, σ1)
def wm_sixes_218 (C2 : Int × ZS → Prop) (post : ZS → Prop) (v1 : Int) (σ : ZS) : Prop :=
  (InR v1) ∧
  ((v1 = 0 →
    wm_sixes_232 C2 post v1 0 (σ 0 34) σ
  ) ∧
  (¬ v1 = 0 →
    wm_sixes_232 C2 post v1 3 (σ 0 34) σ
  ))
def wm_sixes_209 (C2 : Int × ZS → Prop) (C68 : Int × Int × Int × ZS → Prop) (post : ZS → Prop) (v1 : Int) (v2 : Int) (v3 : Int) (t0 : Int) (σ : ZS) : Prop :=
  wm_tell t0 σ (fun σ1 => 
  C68 (v1, v2, v3 + 1, σ1))
def wm_sixes_184 (C2 : Int × ZS → Prop) (C68 : Int × Int × Int × ZS → Prop) (post : ZS → Prop) (v1 : Int) (v2 : Int) (v3 : Int) (t0 : Int) (t1 : Int) (σ : ZS) : Prop :=
  ∀ σ1 : ZS, σ1 = zst σ 0 34 (t1 + t0) →
  C68 (v1, v2, v3, σ1)
def wm_sixes_158 (C2 : Int × ZS → Prop) (C68 : Int × Int × Int × ZS → Prop) (post : ZS → Prop) (v1 : Int) (v2 : Int) (v3 : Int) (t0 : Int) (σ : ZS) : Prop :=
  (t0 = 0 ∨ t0 = 1) ∧
  ∀ σ1 : ZS, σ1 = zst σ 0 36 t0 →
  (InR v3) ∧
  ((¬ v3 = 0 →
    ((¬ v3 = 1 →
      wm_sixes_184 C2 C68 post v1 v2 v3 3 (σ1 0 34) σ1
    ) ∧
    (v3 = 1 →
      wm_sixes_184 C2 C68 post v1 v2 v3 2 (σ1 0 34) σ1
    ))
  ) ∧
  (v3 = 0 →
    wm_sixes_184 C2 C68 post v1 v2 v3 1 (σ1 0 34) σ1
  ))
def wm_sixes_128 (C2 : Int × ZS → Prop) (C68 : Int × Int × Int × ZS → Prop) (post : ZS → Prop) (v1 : Int) (v2 : Int) (v3 : Int) (t0 : Int) (σ : ZS) : Prop :=
  (InR (zand (zshr v2 ((18 - (6 * v3)) - t0)) ((zshl 1 t0) - 1))) ∧
  ((¬ (zand (zshr v2 ((18 - (6 * v3)) - t0)) ((zshl 1 t0) - 1)) = 0 →
    wm_sixes_158 C2 C68 post v1 v2 v3 0 σ
  ) ∧
  ((zand (zshr v2 ((18 - (6 * v3)) - t0)) ((zshl 1 t0) - 1)) = 0 →
    wm_sixes_158 C2 C68 post v1 v2 v3 1 σ
  ))
def wbm_sixes_68 (C2 : Int × ZS → Prop) (post : ZS → Prop) (C68 : Int × Int × Int × ZS → Prop) : Int × Int × Int × ZS → Prop := fun (v1, v2, v3, σ) =>
  (InR v3) ∧
  ((4 ≤ v3 →
    wm_sixes_218 C2 post v1 σ
  ) ∧
  (v3 < 4 →
    (InR v1) ∧
    ((v1 = 0 →
      wm_sixes_218 C2 post v1 σ
    ) ∧
    (¬ v1 = 0 →
      ∀ v4_5 : Int, v4_5 = (zshr v2 (18 - (6 * v3))) % 64 →
      (InR v4_5) ∧
      ((¬ v4_5 = 31 →
        ((31 ≤ v4_5 →
          wm_sixes_209 C2 C68 post v1 v2 v3 v4_5 σ
        ) ∧
        (v4_5 < 31 →
          wm_sixes_209 C2 C68 post v1 v2 v3 (v4_5 + 64) σ
        ))
      ) ∧
      (v4_5 = 31 →
        ((¬ v3 = 0 →
          ((¬ v3 = 1 →
            ((¬ v3 = 2 →
              wm_sixes_128 C2 C68 post 0 v2 v3 0 σ
            ) ∧
            (v3 = 2 →
              wm_sixes_128 C2 C68 post 0 v2 v3 6 σ
            ))
          ) ∧
          (v3 = 1 →
            wm_sixes_128 C2 C68 post 0 v2 v3 4 σ
          ))
        ) ∧
        (v3 = 0 →
          wm_sixes_128 C2 C68 post 0 v2 v3 2 σ
        ))
      ))
    ))
  ))
def wbm_sixes_2 (post : ZS → Prop) (C2 : Int × ZS → Prop) : Int × ZS → Prop := fun (v1, σ) =>
  (InR v1) ∧
  ((v1 = 0 →
    post σ
  ) ∧
  (¬ v1 = 0 →
    (InR (σ 0 36)) ∧
    (((σ 0 36) = 0 →
      post σ
    ) ∧
    (¬ (σ 0 36) = 0 →
      (InR ((σ 0 35) - (σ 0 34))) ∧
      ((((σ 0 35) - (σ 0 34)) < 3 →
        post σ
      ) ∧
      (3 ≤ ((σ 0 35) - (σ 0 34)) →
        (0 ≤ (σ 0 34) ∧ (σ 0 34) < 2178) ∧
        (0 ≤ ((σ 0 34) + 1) ∧ ((σ 0 34) + 1) < 2178) ∧
        (0 ≤ ((σ 0 34) + 2) ∧ ((σ 0 34) + 2) < 2178) ∧
        ∀ v2_10 : Int, v2_10 = zor (zor ((σ 13 (σ 0 34)) * 65536) ((σ 13 ((σ 0 34) + 1)) * 256)) (σ 13 ((σ 0 34) + 2)) →
        ∃ N : Nat, zfix (wbm_sixes_68 C2 post) N (v1, v2_10, 0, σ)
      ))
    ))
  ))
def wm_sixes (σ : ZS) (post : ZS → Prop) : Prop :=
  ∃ N : Nat, zfix (wbm_sixes_2 post) N (1, σ)
/- X13_shifted -/
def wm_shifted_23 (post : ZS → Prop) (t0 : Int) (t1 : Int) (σ : ZS) : Prop :=
  wm_tell (t1 + t0) σ (fun σ1 => 
  ∀ σ2 : ZS, σ2 = zst σ1 0 38 0 →
  post σ2)
def wm_shifted (a0 : Int) (σ : ZS) (post : ZS → Prop) : Prop :=
  (InR (σ 0 36)) ∧
  (((σ 0 36) = 0 →
    post σ
  ) ∧
  (¬ (σ 0 36) = 0 →
    (InR (σ 0 38)) ∧
    (((σ 0 38) = 0 →
      wm_shifted_23 post 0 a0 σ
    ) ∧
    (¬ (σ 0 38) = 0 →
      wm_shifted_23 post 128 a0 σ
    ))
  ))
/- X13_value -/
def wm_value_316 (post : ZS → Prop) (v4 : Int) (t0 : Int) (σ : ZS) : Prop :=
  (t0 = 0 ∨ t0 = 1) ∧
  ∀ σ1 : ZS, σ1 = zst σ 0 36 t0 →
  ∀ σ3 : ZS, σ3 = zst σ1 0 37 (-1) →
  wm_shifted v4 σ3 (fun σ4 => 
  post σ4)
def wm_value_305 (post : ZS → Prop) (v4 : Int) (σ : ZS) : Prop :=
  (InR v4) ∧
  ((v4 < 0 →
    wm_value_316 post v4 0 σ
  ) ∧
  (0 ≤ v4 →
    wm_value_316 post v4 1 σ
  ))
def wm_value_303 (post : ZS → Prop) (t0 : Int) (σ : ZS) : Prop :=
  wm_value_305 post t0 σ
def wm_value_224 (post : ZS → Prop) (v2 : Int) (t0 : Int) (σ : ZS) : Prop :=
  (InR v2) ∧
  ((¬ v2 = 30 →
    wm_value_305 post t0 σ
  ) ∧
  (v2 = 30 →
    (InR (σ 0 38)) ∧
    ((¬ (σ 0 38) = 0 →
      wm_value_305 post t0 σ
    ) ∧
    ((σ 0 38) = 0 →
      ∀ σ5 : ZS, σ5 = zst σ 0 38 1 →
      ∀ σ6 : ZS, σ6 = zst σ5 0 37 (-1) →
      post σ6
    ))
  ))
def wm_value_165 (post : ZS → Prop) (t0 : Int) (σ : ZS) : Prop :=
  wm_value_305 post t0 σ
def wm_value_140 (post : ZS → Prop) (t0 : Int) (σ : ZS) : Prop :=
  wm_shifted t0 σ (fun σ1 => 
  post σ1)
def wm_value_139 (post : ZS → Prop) (t0 : Int) (t1 : Int) (σ : ZS) : Prop :=
  wm_value_140 post (t1 + t0) σ
def wm_value_68 (post : ZS → Prop) (t0 : Int) (σ : ZS) : Prop :=
  wm_tell t0 σ (fun σ1 => 
  post σ1)
def wm_value (a0 : Int) (a1 : Int) (a2 : Int) (σ : ZS) (post : ZS → Prop) : Prop :=
  (InR a0) ∧
  ((¬ a0 = 6 →
    (InR (σ 0 37)) ∧
    ((0 ≤ (σ 0 37) →
      ((¬ (σ 0 37) = 0 →
        ((¬ (σ 0 37) = 1 →
          (InR a1) ∧
          ((a1 ≤ 31 →
            ((¬ a0 = 4 →
              ((¬ a1 = 0 →
                ((27 ≤ a1 →
                  wm_value_303 post ((123 + a1) - 27) σ
                ) ∧
                (a1 < 27 →
                  wm_value_303 post ((65 + a1) - 1) σ
                ))
              ) ∧
              (a1 = 0 →
                wm_value_303 post 96 σ
              ))
            ) ∧
            (a0 = 4 →
              wm_value_303 post (96 + a1) σ
            ))
          ) ∧
          (31 < a1 →
            wm_value_303 post (-1) σ
          ))
        ) ∧
        ((σ 0 37) = 1 →
          (InR a1) ∧
          ((15 ≤ a1 →
            ((22 ≤ a1 →
              ((27 ≤ a1 →
                wm_value_224 post a1 (-1) σ
              ) ∧
              (a1 < 27 →
                wm_value_224 post a1 ((91 + a1) - 22) σ
              ))
            ) ∧
            (a1 < 22 →
              wm_value_224 post a1 ((58 + a1) - 15) σ
            ))
          ) ∧
          (a1 < 15 →
            wm_value_224 post a1 (33 + a1) σ
          ))
        ))
      ) ∧
      ((σ 0 37) = 0 →
        (InR a1) ∧
        ((32 ≤ a1 →
          wm_value_165 post (-1) σ
        ) ∧
        (a1 < 32 →
          wm_value_165 post a1 σ
        ))
      ))
    ) ∧
    ((σ 0 37) < 0 →
      (InR a1) ∧
      ((3 ≤ a1 →
        ((¬ a1 = 3 →
          ((14 ≤ a1 →
            ((¬ a0 = 4 →
              wm_value_139 post 97 (a1 - 14) σ
            ) ∧
            (a0 = 4 →
              wm_value_139 post 65 (a1 - 14) σ
            ))
          ) ∧
          (a1 < 14 →
            wm_value_140 post ((48 + a1) - 4) σ
          ))
        ) ∧
        (a1 = 3 →
          wm_value_140 post 32 σ
        ))
      ) ∧
      (a1 < 3 →
        ∀ σ23 : ZS, σ23 = zst σ 0 37 a1 →
        ∀ σ24 : ZS, σ24 = zst σ23 0 39 a2 →
        post σ24
      ))
    ))
  ) ∧
  (a0 = 6 →
    (InR a1) ∧
    ((¬ a1 = 0 →
      ((¬ a1 = 1 →
        ((¬ a1 = 2 →
          ((¬ a1 = 3 →
            ((14 ≤ a1 →
              wm_value_68 post ((65 + a1) - 14) σ
            ) ∧
            (a1 < 14 →
              wm_value_68 post ((48 + a1) - 4) σ
            ))
          ) ∧
          (a1 = 3 →
            wm_value_68 post 32 σ
          ))
        ) ∧
        (a1 = 2 →
          wm_value_68 post 62 σ
        ))
      ) ∧
      (a1 = 1 →
        wm_value_68 post 42 σ
      ))
    ) ∧
    (a1 = 0 →
      wm_value_68 post 13 σ
    ))
  ))
/- X13_threes -/
def wm_threes_231 (post : ZS → Prop) (t0 : Int) (σ : ZS) : Prop :=
  (t0 = 0 ∨ t0 = 1) ∧
  ∀ σ1 : ZS, σ1 = zst σ 0 36 t0 →
  post σ1
def wm_threes_230 (post : ZS → Prop) (σ : ZS) : Prop :=
  wm_threes_231 post 0 σ
def wm_threes_189 (post : ZS → Prop) (σ : ZS) : Prop :=
  (InR (σ 0 36)) ∧
  (((σ 0 36) = 0 →
    wm_threes_230 post σ
  ) ∧
  (¬ (σ 0 36) = 0 →
    (InR (σ 0 38)) ∧
    ((¬ (σ 0 38) = 0 →
      wm_threes_230 post σ
    ) ∧
    ((σ 0 38) = 0 →
      (InR (σ 0 37)) ∧
      (((σ 0 37) < 0 →
        wm_threes_231 post 1 σ
      ) ∧
      (0 ≤ (σ 0 37) →
        ((¬ (σ 0 37) = 0 →
          wm_threes_230 post σ
        ) ∧
        ((σ 0 37) = 0 →
          (InR (σ 0 39)) ∧
          ((¬ (σ 0 39) = 2 →
            wm_threes_230 post σ
          ) ∧
          ((σ 0 39) = 2 →
            wm_threes_231 post 1 σ
          ))
        ))
      ))
    ))
  ))
def wm_threes_175 (C12 : Int × Int × ZS → Prop) (C127 : Int × Int × Int × Int × ZS → Prop) (post : ZS → Prop) (v1 : Int) (v2 : Int) (v3 : Int) (v4 : Int) (t0 : Int) (t1 : Int) (σ : ZS) : Prop :=
  wm_value t1 t0 v4 σ (fun σ1 => 
  C127 (v1, v2, v3, v4 + 1, σ1))
def wbm_threes_127 (C12 : Int × Int × ZS → Prop) (post : ZS → Prop) (C127 : Int × Int × Int × Int × ZS → Prop) : Int × Int × Int × Int × ZS → Prop := fun (v1, v2, v3, v4, σ) =>
  (InR v4) ∧
  ((3 ≤ v4 →
    C12 (v1, v2, σ)
  ) ∧
  (v4 < 3 →
    (InR (σ 0 36)) ∧
    (((σ 0 36) = 0 →
      C12 (v1, v2, σ)
    ) ∧
    (¬ (σ 0 36) = 0 →
      ((¬ v4 = 0 →
        ((¬ v4 = 1 →
          (InR v3) ∧
          (0 ≤ v3) ∧
          wm_threes_175 C12 C127 post v1 v2 v3 v4 (v3 % 40) v1 σ
        ) ∧
        (v4 = 1 →
          (InR v3) ∧
          (0 ≤ v3) ∧
          (InR (v3 / 40)) ∧
          (0 ≤ (v3 / 40)) ∧
          wm_threes_175 C12 C127 post v1 v2 v3 v4 ((v3 / 40) % 40) v1 σ
        ))
      ) ∧
      (v4 = 0 →
        (InR v3) ∧
        (0 ≤ v3) ∧
        wm_threes_175 C12 C127 post v1 v2 v3 v4 (v3 / 1600) v1 σ
      ))
    ))
  ))
def wm_threes_121 (C12 : Int × Int × ZS → Prop) (post : ZS → Prop) (v1 : Int) (v2 : Int) (v3 : Int) (t0 : Int) (σ : ZS) : Prop :=
  (t0 = 0 ∨ t0 = 1) ∧
  ∀ σ1 : ZS, σ1 = zst σ 0 36 t0 →
  ∃ N : Nat, zfix (wbm_threes_127 C12 post) N (v1, v2, v3, 0, σ1)
def wm_threes_120 (C12 : Int × Int × ZS → Prop) (post : ZS → Prop) (v1 : Int) (v2 : Int) (v3 : Int) (σ : ZS) : Prop :=
  wm_threes_121 C12 post v1 v2 v3 0 σ
def wbm_threes_12 (post : ZS → Prop) (C12 : Int × Int × ZS → Prop) : Int × Int × ZS → Prop := fun (v1, v2, σ) =>
  (InR v2) ∧
  ((v2 = 0 →
    wm_threes_189 post σ
  ) ∧
  (¬ v2 = 0 →
    (InR (σ 0 36)) ∧
    (((σ 0 36) = 0 →
      wm_threes_189 post σ
    ) ∧
    (¬ (σ 0 36) = 0 →
      (InR ((σ 0 35) - (σ 0 34))) ∧
      ((((σ 0 35) - (σ 0 34)) < 2 →
        wm_threes_189 post σ
      ) ∧
      (2 ≤ ((σ 0 35) - (σ 0 34)) →
        (0 ≤ (σ 0 34) ∧ (σ 0 34) < 2178) ∧
        (InR (σ 13 (σ 0 34))) ∧
        ((¬ (σ 13 (σ 0 34)) = 254 →
          (0 ≤ ((σ 0 34) + 1) ∧ ((σ 0 34) + 1) < 2178) ∧
          ∀ v3_11 : Int, v3_11 = ((256 * (σ 13 (σ 0 34))) + (σ 13 ((σ 0 34) + 1))) - 1 →
          ∀ σ12 : ZS, σ12 = zst σ 0 34 ((σ 0 34) + 2) →
          (InR v3_11) ∧
          ((v3_11 < 0 →
            wm_threes_120 C12 post v1 v2 v3_11 σ12
          ) ∧
          (0 ≤ v3_11 →
            ((64000 ≤ v3_11 →
              wm_threes_120 C12 post v1 v2 v3_11 σ12
            ) ∧
            (v3_11 < 64000 →
              wm_threes_121 C12 post v1 v2 v3_11 1 σ12
            ))
          ))
        ) ∧
        ((σ 13 (σ 0 34)) = 254 →
          ∀ σ16 : ZS, σ16 = zst σ 0 34 ((σ 0 34) + 1) →
          C12 (v1, 0, σ16)
        ))
      ))
    ))
  ))
def wm_threes (a0 : Int) (σ : ZS) (post : ZS → Prop) : Prop :=
  ∀ σ1 : ZS, σ1 = zst σ 0 37 (-1) →
  ∀ σ2 : ZS, σ2 = zst σ1 0 38 0 →
  ∃ N : Nat, zfix (wbm_threes_12 post) N (a0, 1, σ2)
/- X13_ascii -/
def wm_ascii_294 (post : ZS → Prop) (t0 : Int) (σ : ZS) : Prop :=
  wm_threes t0 σ (fun σ1 => 
  post σ1)
def wm_ascii_269 (post : ZS → Prop) (v1 : Int) (σ : ZS) : Prop :=
  (InR v1) ∧
  ((¬ v1 = 230 →
    ((¬ v1 = 239 →
      wm_ascii_294 post 6 σ
    ) ∧
    (v1 = 239 →
      wm_ascii_294 post 5 σ
    ))
  ) ∧
  (v1 = 230 →
    wm_ascii_294 post 4 σ
  ))
def wm_ascii_209 (post : ZS → Prop) (t0 : Int) (σ : ZS) : Prop :=
  (t0 = 0 ∨ t0 = 1) ∧
  ∀ σ1 : ZS, σ1 = zst σ 0 36 t0 →
  (InR (σ1 0 36)) ∧
  (((σ1 0 36) = 0 →
    post σ1
  ) ∧
  (¬ (σ1 0 36) = 0 →
    (0 ≤ (σ1 0 34) ∧ (σ1 0 34) < 2178) ∧
    wm_tell ((σ1 13 (σ1 0 34)) + 127) σ1 (fun σ6 => 
    ∀ σ7 : ZS, σ7 = zst σ6 0 34 ((σ6 0 34) + 1) →
    post σ7)
  ))
def wm_ascii_208 (post : ZS → Prop) (σ : ZS) : Prop :=
  wm_ascii_209 post 0 σ
def wm_ascii_141 (C96 : ZS → Prop) (post : ZS → Prop) (t0 : Int) (σ : ZS) : Prop :=
  (t0 = 0 ∨ t0 = 1) ∧
  ∀ σ1 : ZS, σ1 = zst σ 0 36 t0 →
  ∀ σ3 : ZS, σ3 = zst σ1 0 34 ((σ1 0 34) + 1) →
  C96 (σ3)
def wm_ascii_140 (C96 : ZS → Prop) (post : ZS → Prop) (σ : ZS) : Prop :=
  wm_ascii_141 C96 post 0 σ
def wbm_ascii_96 (post : ZS → Prop) (C96 : ZS → Prop) : ZS → Prop := fun (σ) =>
  (InR (σ 0 34)) ∧
  (InR (σ 0 35)) ∧
  (((σ 0 35) ≤ (σ 0 34) →
    post σ
  ) ∧
  ((σ 0 34) < (σ 0 35) →
    (InR (σ 0 36)) ∧
    (((σ 0 36) = 0 →
      wm_ascii_140 C96 post σ
    ) ∧
    (¬ (σ 0 36) = 0 →
      (0 ≤ (σ 0 34) ∧ (σ 0 34) < 2178) ∧
      wm_pad ((σ 0 34) + 1) σ (fun r8 σ7 => 
      (InR (σ 13 (σ 0 34))) ∧
      (InR r8) ∧
      ((¬ (σ 13 (σ 0 34)) = r8 →
        wm_ascii_140 C96 post σ7
      ) ∧
      ((σ 13 (σ 0 34)) = r8 →
        wm_ascii_141 C96 post 1 σ7
      )))
    ))
  ))
def wm_ascii_89 (post : ZS → Prop) (v1 : Int) (σ : ZS) : Prop :=
  (InR v1) ∧
  ((¬ v1 = 129 →
    ((¬ v1 = 235 →
      ((v1 = 230 →
        wm_ascii_269 post v1 σ
      ) ∧
      (¬ v1 = 230 →
        ((v1 = 239 →
          wm_ascii_269 post v1 σ
        ) ∧
        (¬ v1 = 239 →
          ((¬ v1 = 238 →
            ((¬ v1 = 240 →
              ((¬ v1 = 231 →
                ∀ σ9 : ZS, σ9 = zst σ 0 36 0 →
                post σ9
              ) ∧
              (v1 = 231 →
                wm_base σ (fun σ10 => 
                post σ10)
              ))
            ) ∧
            (v1 = 240 →
              wm_sixes σ (fun σ11 => 
              post σ11)
            ))
          ) ∧
          (v1 = 238 →
            wm_ascii_269 post v1 σ
          ))
        ))
      ))
    ) ∧
    (v1 = 235 →
      (InR (σ 0 34)) ∧
      (InR (σ 0 35)) ∧
      (((σ 0 35) ≤ (σ 0 34) →
        wm_ascii_208 post σ
      ) ∧
      ((σ 0 34) < (σ 0 35) →
        (0 ≤ (σ 0 34) ∧ (σ 0 34) < 2178) ∧
        (InR (σ 13 (σ 0 34))) ∧
        (((σ 13 (σ 0 34)) < 1 →
          wm_ascii_208 post σ
        ) ∧
        (1 ≤ (σ 13 (σ 0 34)) →
          ((128 < (σ 13 (σ 0 34)) →
            wm_ascii_208 post σ
          ) ∧
          ((σ 13 (σ 0 34)) ≤ 128 →
            wm_ascii_209 post 1 σ
          ))
        ))
      ))
    ))
  ) ∧
  (v1 = 129 →
    ∃ N : Nat, zfix (wbm_ascii_96 post) N (σ)
  ))
def wm_ascii_42 (post : ZS → Prop) (v1 : Int) (σ : ZS) : Prop :=
  (InR v1) ∧
  ((v1 < 130 →
    wm_ascii_89 post v1 σ
  ) ∧
  (130 ≤ v1 →
    ((229 < v1 →
      wm_ascii_89 post v1 σ
    ) ∧
    (v1 ≤ 229 →
      (InR (v1 - 130)) ∧
      (0 ≤ (v1 - 130)) ∧
      wm_tell (48 + ((v1 - 130) / 10)) σ (fun σ6 => 
      wm_tell (48 + ((v1 - 130) % 10)) σ6 (fun σ7 => 
      post σ7))
    ))
  ))
def wm_ascii (σ : ZS) (post : ZS → Prop) : Prop :=
  (0 ≤ (σ 0 34) ∧ (σ 0 34) < 2178) ∧
  ∀ v1_2 : Int, v1_2 = σ 13 (σ 0 34) →
  ∀ σ3 : ZS, σ3 = zst σ 0 34 ((σ 0 34) + 1) →
  (InR v1_2) ∧
  ((v1_2 < 1 →
    wm_ascii_42 post v1_2 σ3
  ) ∧
  (1 ≤ v1_2 →
    ((128 < v1_2 →
      wm_ascii_42 post v1_2 σ3
    ) ∧
    (v1_2 ≤ 128 →
      wm_tell (v1_2 - 1) σ3 (fun σ7 => 
      post σ7)
    ))
  ))
/- X13_readStream -/
def wm_readStream_45 (post : Int → ZS → Prop) (σ : ZS) : Prop :=
  (InR (σ 0 36)) ∧
  (((σ 0 36) = 0 →
    post (-1) σ
  ) ∧
  (¬ (σ 0 36) = 0 →
    post (σ 0 31) σ
  ))
def wbm_readStream_20 (post : Int → ZS → Prop) (C20 : ZS → Prop) : ZS → Prop := fun (σ) =>
  (InR (σ 0 36)) ∧
  (((σ 0 36) = 0 →
    wm_readStream_45 post σ
  ) ∧
  (¬ (σ 0 36) = 0 →
    (InR (σ 0 34)) ∧
    (InR (σ 0 35)) ∧
    (((σ 0 35) ≤ (σ 0 34) →
      wm_readStream_45 post σ
    ) ∧
    ((σ 0 34) < (σ 0 35) →
      wm_ascii σ (fun σ6 => 
      C20 (σ6))
    ))
  ))
def wm_readStream (a0 : Int) (σ : ZS) (post : Int → ZS → Prop) : Prop :=
  ∀ σ1 : ZS, σ1 = zst σ 0 34 0 →
  ∀ σ2 : ZS, σ2 = zst σ1 0 35 a0 →
  ∀ σ3 : ZS, σ3 = zst σ2 0 31 0 →
  ∀ σ4 : ZS, σ4 = zst σ3 0 36 1 →
  ∃ N : Nat, zfix (wbm_readStream_20 post) N (σ4)
/- X13_stream -/
def wbm_stream_36 (post : Int → ZS → Prop) (C36 : Int × ZS → Prop) : Int × ZS → Prop := fun (v2, σ) =>
  (InR v2) ∧
  (InR (σ 0 11)) ∧
  (((σ 0 11) ≤ v2 →
    wm_readStream (σ 0 11) σ (fun r5 σ4 => 
    (InR r5) ∧
    ((r5 < 0 →
      post r5 σ4
    ) ∧
    (0 ≤ r5 →
      wm_keepRead σ4 (fun σ8 => 
      post r5 σ8)
    )))
  ) ∧
  (v2 < (σ 0 11) →
    (0 ≤ v2 ∧ v2 < 3200) ∧
    (0 ≤ v2 ∧ v2 < 2178) ∧
    ∀ σ11 : ZS, σ11 = zst σ 13 v2 (σ 9 v2) →
    C36 (v2 + 1, σ11)
  ))
def wm_stream (a0 : Int) (σ : ZS) (post : Int → ZS → Prop) : Prop :=
  ∀ σ1 : ZS, σ1 = zst σ 0 0 0 →
  wm_takeTape σ1 (fun σ2 => 
  wm_isSymbol a0 σ2 (fun r4 σ3 => r4 = 0 ∨ r4 = 1 →
  ((¬ r4 = 0 →
    wm_dataOf a0 σ3 (fun r8 σ7 => 
    (InR (σ3 0 11)) ∧
    (InR r8) ∧
    (((σ3 0 11) = r8 →
      ∃ N : Nat, zfix (wbm_stream_36 post) N (0, σ7)
    ) ∧
    (¬ (σ3 0 11) = r8 →
      post (-2) σ7
    )))
  ) ∧
  (r4 = 0 →
    post (-3) σ3
  ))))
/- X13_product -/
def wm_product (a0 : Int) (a1 : Int) (σ : ZS) (post : Int → ZS → Prop) : Prop :=
  (InR a0) ∧
  ((a0 = 0 →
    post 0 σ
  ) ∧
  (¬ a0 = 0 →
    (InR a1) ∧
    ((¬ a1 = 0 →
      (0 ≤ a0 ∧ a0 < 256) ∧
      (0 ≤ a1 ∧ a1 < 256) ∧
      (0 ≤ ((σ 8 a0) + (σ 8 a1)) ∧ ((σ 8 a0) + (σ 8 a1)) < 512) ∧
      post (σ 7 ((σ 8 a0) + (σ 8 a1))) σ
    ) ∧
    (a1 = 0 →
      post 0 σ
    ))
  ))
/- X13_places -/
def wbm_places_35 (C4 : Int × Int × Int × ZS → Prop) (post : Int → ZS → Prop) (C35 : Int × Int × Int × Int × Int × Int × ZS → Prop) : Int × Int × Int × Int × Int × Int × ZS → Prop := fun (v1, v2, v3, v4, v5, v6, σ) =>
  (InR v6) ∧
  ((v6 < 0 →
    (InR v5) ∧
    ((¬ v5 = 0 →
      C4 (v1, v2, v3 + 1, σ)
    ) ∧
    (v5 = 0 →
      (InR v2) ∧
      (InR v1) ∧
      ((v1 ≤ v2 →
        C4 (v1, v2, v3 + 1, σ)
      ) ∧
      (v2 < v1 →
        (0 ≤ v2 ∧ v2 < 36) ∧
        ∀ σ9 : ZS, σ9 = zst σ 19 v2 v3 →
        C4 (v1, v2 + 1, v3 + 1, σ9)
      ))
    ))
  ) ∧
  (0 ≤ v6 →
    wm_product v5 v4 σ (fun r11 σ10 => 
    (0 ≤ v6 ∧ v6 < 36) ∧
    ∀ v5_13 : Int, v5_13 = zxor r11 (σ10 20 v6) →
    C35 (v1, v2, v3, v4, v5_13, v6 + (-1), σ10))
  ))
def wbm_places_4 (post : Int → ZS → Prop) (C4 : Int × Int × Int × ZS → Prop) : Int × Int × Int × ZS → Prop := fun (v1, v2, v3, σ) =>
  (InR v3) ∧
  (InR (σ 0 25)) ∧
  (((σ 0 25) ≤ v3 →
    (InR v2) ∧
    (InR v1) ∧
    ((¬ v2 = v1 →
      post 0 σ
    ) ∧
    (v2 = v1 →
      post 1 σ
    ))
  ) ∧
  (v3 < (σ 0 25) →
    (0 ≤ (((σ 0 25) - 1) - v3) ∧ (((σ 0 25) - 1) - v3) < 512) ∧
    ∀ v4_8 : Int, v4_8 = σ 7 (((σ 0 25) - 1) - v3) →
    ∃ N : Nat, zfix (wbm_places_35 C4 post) N (v1, v2, v3, v4_8, 1, v1 - 1, σ)
  ))
def wm_places (a0 : Int) (σ : ZS) (post : Int → ZS → Prop) : Prop :=
  ∃ N : Nat, zfix (wbm_places_4 post) N (a0, 0, 0, σ)
/- X13_quotient -/
def wm_quotient (a0 : Int) (a1 : Int) (σ : ZS) (post : Int → ZS → Prop) : Prop :=
  (InR a0) ∧
  ((¬ a0 = 0 →
    (0 ≤ a0 ∧ a0 < 256) ∧
    (0 ≤ a1 ∧ a1 < 256) ∧
    (0 ≤ (((σ 8 a0) + 255) - (σ 8 a1)) ∧ (((σ 8 a0) + 255) - (σ 8 a1)) < 512) ∧
    post (σ 7 (((σ 8 a0) + 255) - (σ 8 a1))) σ
  ) ∧
  (a0 = 0 →
    post 0 σ
  ))
/- X13_solve -/
def wbm_solve_276 (post : Int → ZS → Prop) (C276 : Int × Int × Int × ZS → Prop) : Int × Int × Int × ZS → Prop := fun (v1, v2, v3, σ) =>
  (InR v3) ∧
  (InR v1) ∧
  ((v1 ≤ v3 →
    post 1 σ
  ) ∧
  (v3 < v1 →
    (0 ≤ ((v2 * v3) + v1) ∧ ((v2 * v3) + v1) < 1260) ∧
    (0 ≤ v3 ∧ v3 < 36) ∧
    ∀ σ6 : ZS, σ6 = zst σ 20 v3 (σ 18 ((v2 * v3) + v1)) →
    C276 (v1, v2, v3 + 1, σ6)
  ))
def wbm_solve_203 (C6 : Int × Int × Int × ZS → Prop) (C171 : Int × Int × Int × Int × ZS → Prop) (post : Int → ZS → Prop) (C203 : Int × Int × Int × Int × Int × Int × ZS → Prop) : Int × Int × Int × Int × Int × Int × ZS → Prop := fun (v1, v2, v3, v6, v7, v8, σ) =>
  (InR v8) ∧
  (InR v2) ∧
  ((v2 ≤ v8 →
    C171 (v1, v2, v3, v6 + 1, σ)
  ) ∧
  (v8 < v2 →
    (InR v7) ∧
    ((v7 ≤ 0 →
      C171 (v1, v2, v3, v6 + 1, σ)
    ) ∧
    (0 < v7 →
      (0 ≤ ((v2 * v6) + v8) ∧ ((v2 * v6) + v8) < 1260) ∧
      (0 ≤ ((v2 * v3) + v8) ∧ ((v2 * v3) + v8) < 1260) ∧
      wm_product v7 (σ 18 ((v2 * v3) + v8)) σ (fun r9 σ8 => 
      ∀ σ10 : ZS, σ10 = zst σ8 18 ((v2 * v6) + v8) (zxor (σ 18 ((v2 * v6) + v8)) r9) →
      C203 (v1, v2, v3, v6, v7, v8 + 1, σ10))
    ))
  ))
def wm_solve_198 (C6 : Int × Int × Int × ZS → Prop) (C171 : Int × Int × Int × Int × ZS → Prop) (post : Int → ZS → Prop) (v1 : Int) (v2 : Int) (v3 : Int) (v6 : Int) (t0 : Int) (σ : ZS) : Prop :=
  ∃ N : Nat, zfix (wbm_solve_203 C6 C171 post) N (v1, v2, v3, v6, t0, v3, σ)
def wbm_solve_171 (C6 : Int × Int × Int × ZS → Prop) (post : Int → ZS → Prop) (C171 : Int × Int × Int × Int × ZS → Prop) : Int × Int × Int × Int × ZS → Prop := fun (v1, v2, v3, v6, σ) =>
  (InR v6) ∧
  (InR v1) ∧
  ((v1 ≤ v6 →
    C6 (v1, v2, v3 + 1, σ)
  ) ∧
  (v6 < v1 →
    (InR v3) ∧
    ((¬ v6 = v3 →
      (0 ≤ ((v2 * v6) + v3) ∧ ((v2 * v6) + v3) < 1260) ∧
      wm_solve_198 C6 C171 post v1 v2 v3 v6 (σ 18 ((v2 * v6) + v3)) σ
    ) ∧
    (v6 = v3 →
      wm_solve_198 C6 C171 post v1 v2 v3 v6 0 σ
    ))
  ))
def wbm_solve_128 (C6 : Int × Int × Int × ZS → Prop) (post : Int → ZS → Prop) (C128 : Int × Int × Int × Int × Int × ZS → Prop) : Int × Int × Int × Int × Int × ZS → Prop := fun (v1, v2, v3, v5, v6, σ) =>
  (InR v6) ∧
  (InR v2) ∧
  ((v2 ≤ v6 →
    ∃ N : Nat, zfix (wbm_solve_171 C6 post) N (v1, v2, v3, 0, σ)
  ) ∧
  (v6 < v2 →
    (0 ≤ ((v2 * v3) + v6) ∧ ((v2 * v3) + v6) < 1260) ∧
    wm_quotient (σ 18 ((v2 * v3) + v6)) v5 σ (fun r6 σ5 => 
    ∀ σ7 : ZS, σ7 = zst σ5 18 ((v2 * v3) + v6) r6 →
    C128 (v1, v2, v3, v5, v6 + 1, σ7))
  ))
def wbm_solve_51 (C6 : Int × Int × Int × ZS → Prop) (post : Int → ZS → Prop) (C51 : Int × Int × Int × Int × Int × ZS → Prop) : Int × Int × Int × Int × Int × ZS → Prop := fun (v1, v2, v3, v4, v5, σ) =>
  (InR v5) ∧
  (InR v2) ∧
  ((v2 ≤ v5 →
    (0 ≤ ((v2 * v3) + v3) ∧ ((v2 * v3) + v3) < 1260) ∧
    ∀ v5_5 : Int, v5_5 = σ 18 ((v2 * v3) + v3) →
    ∃ N : Nat, zfix (wbm_solve_128 C6 post) N (v1, v2, v3, v5_5, v3, σ)
  ) ∧
  (v5 < v2 →
    (0 ≤ ((v2 * v4) + v5) ∧ ((v2 * v4) + v5) < 1260) ∧
    ∀ v6_7 : Int, v6_7 = σ 18 ((v2 * v4) + v5) →
    (0 ≤ ((v2 * v3) + v5) ∧ ((v2 * v3) + v5) < 1260) ∧
    ∀ σ9 : ZS, σ9 = zst σ 18 ((v2 * v4) + v5) (σ 18 ((v2 * v3) + v5)) →
    ∀ σ10 : ZS, σ10 = zst σ9 18 ((v2 * v3) + v5) v6_7 →
    C51 (v1, v2, v3, v4, v5 + 1, σ10)
  ))
def wm_solve_40 (C6 : Int × Int × Int × ZS → Prop) (post : Int → ZS → Prop) (v1 : Int) (v2 : Int) (v3 : Int) (v4 : Int) (σ : ZS) : Prop :=
  (InR v4) ∧
  (InR v1) ∧
  ((¬ v4 = v1 →
    ∃ N : Nat, zfix (wbm_solve_51 C6 post) N (v1, v2, v3, v4, 0, σ)
  ) ∧
  (v4 = v1 →
    post 0 σ
  ))
def wbm_solve_14 (C6 : Int × Int × Int × ZS → Prop) (post : Int → ZS → Prop) (C14 : Int × Int × Int × Int × ZS → Prop) : Int × Int × Int × Int × ZS → Prop := fun (v1, v2, v3, v4, σ) =>
  (InR v4) ∧
  (InR v1) ∧
  ((v1 ≤ v4 →
    wm_solve_40 C6 post v1 v2 v3 v4 σ
  ) ∧
  (v4 < v1 →
    (0 ≤ ((v2 * v4) + v3) ∧ ((v2 * v4) + v3) < 1260) ∧
    (InR (σ 18 ((v2 * v4) + v3))) ∧
    ((¬ (σ 18 ((v2 * v4) + v3)) = 0 →
      wm_solve_40 C6 post v1 v2 v3 v4 σ
    ) ∧
    ((σ 18 ((v2 * v4) + v3)) = 0 →
      C14 (v1, v2, v3, v4 + 1, σ)
    ))
  ))
def wbm_solve_6 (post : Int → ZS → Prop) (C6 : Int × Int × Int × ZS → Prop) : Int × Int × Int × ZS → Prop := fun (v1, v2, v3, σ) =>
  (InR v3) ∧
  (InR v1) ∧
  ((v1 ≤ v3 →
    ∃ N : Nat, zfix (wbm_solve_276 post) N (v1, v2, 0, σ)
  ) ∧
  (v3 < v1 →
    ∃ N : Nat, zfix (wbm_solve_14 C6 post) N (v1, v2, v3, v3, σ)
  ))
def wm_solve (a0 : Int) (σ : ZS) (post : Int → ZS → Prop) : Prop :=
  ∃ N : Nat, zfix (wbm_solve_6 post) N (a0, a0 + 1, 0, σ)
/- X13_sum -/
def wm_sum_74 (C4 : Int × Int × Int × ZS → Prop) (post : Int → ZS → Prop) (v1 : Int) (v3 : Int) (t0 : Int) (σ : ZS) : Prop :=
  C4 (v1, t0, v3 + 1, σ)
def wm_sum_73 (C4 : Int × Int × Int × ZS → Prop) (post : Int → ZS → Prop) (v1 : Int) (v3 : Int) (σ : ZS) : Prop :=
  wm_sum_74 C4 post v1 v3 0 σ
def wbm_sum_15 (C4 : Int × Int × Int × ZS → Prop) (post : Int → ZS → Prop) (C15 : Int × Int × Int × Int × Int × ZS → Prop) : Int × Int × Int × Int × Int × ZS → Prop := fun (v1, v2, v3, v4, v5, σ) =>
  (InR v5) ∧
  (InR (σ 0 25)) ∧
  (((σ 0 25) ≤ v5 →
    (0 ≤ v3 ∧ v3 < 70) ∧
    ∀ σ5 : ZS, σ5 = zst σ 16 v3 v4 →
    (InR v2) ∧
    ((v2 = 0 →
      wm_sum_73 C4 post v1 v3 σ5
    ) ∧
    (¬ v2 = 0 →
      (InR v4) ∧
      ((¬ v4 = 0 →
        wm_sum_73 C4 post v1 v3 σ5
      ) ∧
      (v4 = 0 →
        wm_sum_74 C4 post v1 v3 1 σ5
      ))
    ))
  ) ∧
  (v5 < (σ 0 25) →
    (0 ≤ v3 ∧ v3 < 512) ∧
    wm_product v4 (σ 7 v3) σ (fun r12 σ11 => 
    (0 ≤ v5 ∧ v5 < 256) ∧
    ∀ v4_14 : Int, v4_14 = zxor r12 (σ11 17 v5) →
    C15 (v1, v2, v3, v4_14, v5 + 1, σ11))
  ))
def wbm_sum_4 (post : Int → ZS → Prop) (C4 : Int × Int × Int × ZS → Prop) : Int × Int × Int × ZS → Prop := fun (v1, v2, v3, σ) =>
  (InR v3) ∧
  (InR v1) ∧
  ((v1 < v3 →
    (v2 = 0 ∨ v2 = 1) ∧
    post v2 σ
  ) ∧
  (v3 ≤ v1 →
    ∃ N : Nat, zfix (wbm_sum_15 C4 post) N (v1, v2, v3, 0, 0, σ)
  ))
def wm_sum (a0 : Int) (σ : ZS) (post : Int → ZS → Prop) : Prop :=
  ∃ N : Nat, zfix (wbm_sum_4 post) N (a0, 1, 1, σ)
/- X13_values -/
def wm_values_153 (C100 : Int × Int × Int × ZS → Prop) (post : Int → ZS → Prop) (v1 : Int) (v2 : Int) (v3 : Int) (t0 : Int) (t1 : Int) (σ : ZS) : Prop :=
  ∀ σ1 : ZS, σ1 = zst σ 0 29 (t1 + t0) →
  C100 (v1, v2, v3 + 1, σ1)
def wbm_values_100 (post : Int → ZS → Prop) (C100 : Int × Int × Int × ZS → Prop) : Int × Int × Int × ZS → Prop := fun (v1, v2, v3, σ) =>
  (InR v3) ∧
  (InR v1) ∧
  ((v1 ≤ v3 →
    wm_sum v2 σ (fun r5 σ4 => r5 = 0 ∨ r5 = 1 →
    post r5 σ4)
  ) ∧
  (v3 < v1 →
    (0 ≤ v3 ∧ v3 < 36) ∧
    (0 ≤ (σ 19 v3) ∧ (σ 19 v3) < 256) ∧
    ∀ σ9 : ZS, σ9 = zst σ 17 (σ 19 v3) (zxor (σ 17 (σ 19 v3)) (σ 20 v3)) →
    (InR (σ9 20 v3)) ∧
    ((¬ (σ9 20 v3) = 0 →
      wm_values_153 C100 post v1 v2 v3 1 (σ9 0 29) σ9
    ) ∧
    ((σ9 20 v3) = 0 →
      wm_values_153 C100 post v1 v2 v3 0 (σ9 0 29) σ9
    ))
  ))
def wbm_values_10 (C2 : Int × Int × Int × ZS → Prop) (post : Int → ZS → Prop) (C10 : Int × Int × Int × Int × ZS → Prop) : Int × Int × Int × Int × ZS → Prop := fun (v1, v2, v3, v4, σ) =>
  (InR v4) ∧
  (InR v1) ∧
  ((v1 ≤ v4 →
    (0 ≤ (1 + v3) ∧ (1 + v3) < 70) ∧
    (0 ≤ (((v1 + 1) * v3) + v1) ∧ (((v1 + 1) * v3) + v1) < 1260) ∧
    ∀ σ6 : ZS, σ6 = zst σ 18 (((v1 + 1) * v3) + v1) (σ 16 (1 + v3)) →
    C2 (v1, v2, v3 + 1, σ6)
  ) ∧
  (v4 < v1 →
    (0 ≤ v4 ∧ v4 < 36) ∧
    (InR ((v3 + 1) * (((σ 0 25) - 1) - (σ 19 v4)))) ∧
    (0 ≤ ((v3 + 1) * (((σ 0 25) - 1) - (σ 19 v4)))) ∧
    (0 ≤ (((v3 + 1) * (((σ 0 25) - 1) - (σ 19 v4))) % 255) ∧ (((v3 + 1) * (((σ 0 25) - 1) - (σ 19 v4))) % 255) < 512) ∧
    (0 ≤ (((v1 + 1) * v3) + v4) ∧ (((v1 + 1) * v3) + v4) < 1260) ∧
    ∀ σ12 : ZS, σ12 = zst σ 18 (((v1 + 1) * v3) + v4) (σ 7 (((v3 + 1) * (((σ 0 25) - 1) - (σ 19 v4))) % 255)) →
    C10 (v1, v2, v3, v4 + 1, σ12)
  ))
def wbm_values_2 (post : Int → ZS → Prop) (C2 : Int × Int × Int × ZS → Prop) : Int × Int × Int × ZS → Prop := fun (v1, v2, v3, σ) =>
  (InR v3) ∧
  (InR v1) ∧
  ((v1 ≤ v3 →
    wm_solve v1 σ (fun r5 σ4 => r5 = 0 ∨ r5 = 1 →
    ((¬ r5 = 0 →
      ∃ N : Nat, zfix (wbm_values_100 post) N (v1, v2, 0, σ4)
    ) ∧
    (r5 = 0 →
      post 0 σ4
    )))
  ) ∧
  (v3 < v1 →
    ∃ N : Nat, zfix (wbm_values_10 C2 post) N (v1, v2, v3, 0, σ)
  ))
def wm_values (a0 : Int) (a1 : Int) (σ : ZS) (post : Int → ZS → Prop) : Prop :=
  ∃ N : Nat, zfix (wbm_values_2 post) N (a0, a1, 0, σ)
/- X13_mend -/
def wm_mend_101 (post : Int → ZS → Prop) (v1 : Int) (v2 : Int) (v3 : Int) (σ : ZS) : Prop :=
  (InR v3) ∧
  ((v3 = 0 →
    post 0 σ
  ) ∧
  (¬ v3 = 0 →
    wm_places v2 σ (fun r4 σ3 => r4 = 0 ∨ r4 = 1 →
    ((r4 = 0 →
      post 0 σ3
    ) ∧
    (¬ r4 = 0 →
      wm_values v2 v1 σ3 (fun r8 σ7 => r8 = 0 ∨ r8 = 1 →
      ((r8 = 0 →
        post 0 σ7
      ) ∧
      (¬ r8 = 0 →
        post 1 σ7
      )))
    )))
  ))
def wm_mend_96 (C16 : Int × Int × Int × ZS → Prop) (post : Int → ZS → Prop) (v1 : Int) (v3 : Int) (t0 : Int) (t1 : Int) (σ : ZS) : Prop :=
  ∀ v2_1 : Int, v2_1 = t1 - t0 →
  C16 (v1, v2_1, v3, σ)
def wbm_mend_36 (C16 : Int × Int × Int × ZS → Prop) (C27 : Int × Int × Int × ZS → Prop) (post : Int → ZS → Prop) (C36 : Int × Int × Int × Int × ZS → Prop) : Int × Int × Int × Int × ZS → Prop := fun (v1, v2, v4, v5, σ) =>
  (InR v5) ∧
  (InR v2) ∧
  ((v2 < v5 →
    C27 (v1, v2, v4 + 1, σ)
  ) ∧
  (v5 ≤ v2 →
    (0 ≤ ((1 + v4) + v5) ∧ ((1 + v4) + v5) < 70) ∧
    (0 ≤ (((v2 + 1) * v4) + v5) ∧ (((v2 + 1) * v4) + v5) < 1260) ∧
    ∀ σ6 : ZS, σ6 = zst σ 18 (((v2 + 1) * v4) + v5) (σ 16 ((1 + v4) + v5)) →
    C36 (v1, v2, v4, v5 + 1, σ6)
  ))
def wbm_mend_27 (C16 : Int × Int × Int × ZS → Prop) (post : Int → ZS → Prop) (C27 : Int × Int × Int × ZS → Prop) : Int × Int × Int × ZS → Prop := fun (v1, v2, v4, σ) =>
  (InR v4) ∧
  (InR v2) ∧
  ((v2 ≤ v4 →
    wm_solve v2 σ (fun r5 σ4 => r5 = 0 ∨ r5 = 1 →
    ((r5 = 0 →
      wm_mend_96 C16 post v1 r5 1 v2 σ4
    ) ∧
    (¬ r5 = 0 →
      wm_mend_96 C16 post v1 r5 0 v2 σ4
    )))
  ) ∧
  (v4 < v2 →
    ∃ N : Nat, zfix (wbm_mend_36 C16 C27 post) N (v1, v2, v4, 0, σ)
  ))
def wbm_mend_16 (post : Int → ZS → Prop) (C16 : Int × Int × Int × ZS → Prop) : Int × Int × Int × ZS → Prop := fun (v1, v2, v3, σ) =>
  (InR v2) ∧
  ((v2 ≤ 0 →
    wm_mend_101 post v1 v2 v3 σ
  ) ∧
  (0 < v2 →
    (InR v3) ∧
    ((¬ v3 = 0 →
      wm_mend_101 post v1 v2 v3 σ
    ) ∧
    (v3 = 0 →
      ∃ N : Nat, zfix (wbm_mend_27 C16 post) N (v1, v2, 0, σ)
    ))
  ))
def wm_mend (a0 : Int) (σ : ZS) (post : Int → ZS → Prop) : Prop :=
  wm_sum a0 σ (fun r2 σ1 => r2 = 0 ∨ r2 = 1 →
  ((r2 = 0 →
    (InR a0) ∧
    (0 ≤ a0) ∧
    ∀ v2_7 : Int, v2_7 = a0 / 2 →
    ∃ N : Nat, zfix (wbm_mend_16 post) N (a0, v2_7, 0, σ1)
  ) ∧
  (¬ r2 = 0 →
    post 1 σ1
  )))
/- X13_mendAll -/
def wbm_mendAll_119 (C20 : Int × Int × Int × Int × ZS → Prop) (post : Int → ZS → Prop) (C119 : Int × Int × Int × Int × Int × ZS → Prop) : Int × Int × Int × Int × Int × ZS → Prop := fun (v1, v2, v3, v4, v6, σ) =>
  (InR v6) ∧
  (InR (σ 0 25)) ∧
  (((σ 0 25) ≤ v6 →
    C20 (v1, v2, v3, v4 + 1, σ)
  ) ∧
  (v6 < (σ 0 25) →
    (0 ≤ v1 ∧ v1 < 30) ∧
    (0 ≤ v6 ∧ v6 < 256) ∧
    (0 ≤ (v4 + (v6 * (σ 4 v1))) ∧ (v4 + (v6 * (σ 4 v1))) < 2178) ∧
    ∀ σ7 : ZS, σ7 = zst σ 13 (v4 + (v6 * (σ 4 v1))) (σ 17 v6) →
    C119 (v1, v2, v3, v4, v6 + 1, σ7)
  ))
def wm_mendAll_88 (C20 : Int × Int × Int × Int × ZS → Prop) (C43 : Int × Int × Int × Int × Int × Int × ZS → Prop) (post : Int → ZS → Prop) (v1 : Int) (v2 : Int) (v3 : Int) (v4 : Int) (v6 : Int) (t0 : Int) (t1 : Int) (σ : ZS) : Prop :=
  ∀ v5_1 : Int, v5_1 = t1 + t0 →
  (0 ≤ v1 ∧ v1 < 30) ∧
  ∀ v6_3 : Int, v6_3 = v6 + (σ 4 v1) →
  C43 (v1, v2, v3, v4, v5_1, v6_3, σ)
def wbm_mendAll_43 (C20 : Int × Int × Int × Int × ZS → Prop) (post : Int → ZS → Prop) (C43 : Int × Int × Int × Int × Int × Int × ZS → Prop) : Int × Int × Int × Int × Int × Int × ZS → Prop := fun (v1, v2, v3, v4, v5, v6, σ) =>
  (InR v6) ∧
  (InR v2) ∧
  ((v2 ≤ v6 →
    wm_mend v5 σ (fun r5 σ4 => r5 = 0 ∨ r5 = 1 →
    ((¬ r5 = 0 →
      ∃ N : Nat, zfix (wbm_mendAll_119 C20 post) N (v1, v2, v3, v4, 0, σ4)
    ) ∧
    (r5 = 0 →
      post 0 σ4
    )))
  ) ∧
  (v6 < v2 →
    (0 ≤ v6 ∧ v6 < 2178) ∧
    (0 ≤ (σ 0 25) ∧ (σ 0 25) < 256) ∧
    ∀ σ10 : ZS, σ10 = zst σ 17 (σ 0 25) (σ 13 v6) →
    ∀ σ11 : ZS, σ11 = zst σ10 0 25 ((σ10 0 25) + 1) →
    (InR v3) ∧
    ((v3 ≤ v6 →
      wm_mendAll_88 C20 C43 post v1 v2 v3 v4 v6 1 v5 σ11
    ) ∧
    (v6 < v3 →
      wm_mendAll_88 C20 C43 post v1 v2 v3 v4 v6 0 v5 σ11
    ))
  ))
def wbm_mendAll_20 (post : Int → ZS → Prop) (C20 : Int × Int × Int × Int × ZS → Prop) : Int × Int × Int × Int × ZS → Prop := fun (v1, v2, v3, v4, σ) =>
  (0 ≤ v1 ∧ v1 < 30) ∧
  (InR v4) ∧
  (InR (σ 4 v1)) ∧
  (((σ 4 v1) ≤ v4 →
    post 1 σ
  ) ∧
  (v4 < (σ 4 v1) →
    ∀ σ5 : ZS, σ5 = zst σ 0 25 0 →
    ∃ N : Nat, zfix (wbm_mendAll_43 C20 post) N (v1, v2, v3, v4, 0, v4, σ5)
  ))
def wm_mendAll (a0 : Int) (σ : ZS) (post : Int → ZS → Prop) : Prop :=
  wm_allOf a0 σ (fun r2 σ1 => 
  wm_dataOf a0 σ1 (fun r4 σ3 => 
  ∀ σ5 : ZS, σ5 = zst σ3 0 29 0 →
  ∃ N : Nat, zfix (wbm_mendAll_20 post) N (a0, r2, r4, 0, σ5)))
/- X13_decode -/
def wbm_decode_25 (post : Int → ZS → Prop) (C25 : Int × ZS → Prop) : Int × ZS → Prop := fun (v1, σ) =>
  wm_allOf (σ 0 18) σ (fun r2 σ1 => 
  (InR v1) ∧
  (InR r2) ∧
  ((r2 ≤ v1 →
    wm_mendAll (σ1 0 18) σ1 (fun r7 σ6 => r7 = 0 ∨ r7 = 1 →
    ((¬ r7 = 0 →
      wm_dataOf (σ6 0 18) σ6 (fun r11 σ10 => 
      wm_readStream r11 σ10 (fun r13 σ12 => 
      (InR r13) ∧
      ((0 ≤ r13 →
        wm_keepRead σ12 (fun σ16 => 
        ∀ σ17 : ZS, σ17 = zst σ16 0 40 (σ16 0 29) →
        post r13 σ17)
      ) ∧
      (r13 < 0 →
        post (-2) σ12
      ))))
    ) ∧
    (r7 = 0 →
      post (-1) σ6
    )))
  ) ∧
  (v1 < r2 →
    wm_read v1 σ1 (fun r19 σ18 => 
    (0 ≤ v1 ∧ v1 < 2178) ∧
    ∀ σ21 : ZS, σ21 = zst σ18 13 v1 r19 →
    C25 (v1 + 1, σ21))
  )))
def wm_decode (σ : ZS) (post : Int → ZS → Prop) : Prop :=
  ∀ σ1 : ZS, σ1 = zst σ 0 0 0 →
  (InR (σ1 0 18)) ∧
  ((0 ≤ (σ1 0 18) →
    wm_map (σ1 0 18) σ1 (fun σ4 => 
    ∃ N : Nat, zfix (wbm_decode_25 post) N (0, σ4))
  ) ∧
  ((σ1 0 18) < 0 →
    post (-3) σ1
  ))
/- X13_letter -/
def wm_letter (a0 : Int) (σ : ZS) (post : Int → ZS → Prop) : Prop :=
  ∀ σ1 : ZS, σ1 = zst σ 0 0 0 →
  (InR a0) ∧
  ((a0 < 0 →
    post (-1) σ1
  ) ∧
  (0 ≤ a0 →
    (InR (σ1 0 33)) ∧
    ((a0 < (σ1 0 33) →
      (0 ≤ a0 ∧ a0 < 4000) ∧
      post (σ1 22 a0) σ1
    ) ∧
    ((σ1 0 33) ≤ a0 →
      post (-1) σ1
    ))
  ))
/- X13_note -/
def wm_note_57 (post : ZS → Prop) (v1 : Int) (v2 : Int) (v3 : Int) (v4 : Int) (σ : ZS) : Prop :=
  (0 ≤ (σ 0 53) ∧ (σ 0 53) < 3200) ∧
  ∀ σ2 : ZS, σ2 = zst σ 28 (σ 0 53) v1 →
  (0 ≤ (σ2 0 53) ∧ (σ2 0 53) < 3200) ∧
  ∀ σ4 : ZS, σ4 = zst σ2 29 (σ2 0 53) v2 →
  (0 ≤ (σ4 0 53) ∧ (σ4 0 53) < 3200) ∧
  ∀ σ6 : ZS, σ6 = zst σ4 30 (σ4 0 53) v3 →
  (0 ≤ (σ6 0 53) ∧ (σ6 0 53) < 3200) ∧
  ∀ σ8 : ZS, σ8 = zst σ6 31 (σ6 0 53) v4 →
  ∀ σ9 : ZS, σ9 = zst σ8 0 53 ((σ8 0 53) + 1) →
  post σ9
def wm_note (a0 : Int) (a1 : Int) (a2 : Int) (a3 : Int) (σ : ZS) (post : ZS → Prop) : Prop :=
  (InR a0) ∧
  ((¬ a0 = 0 →
    wm_note_57 post a0 a1 a2 a3 σ
  ) ∧
  (a0 = 0 →
    (InR (σ 0 53)) ∧
    (((σ 0 53) ≤ 0 →
      wm_note_57 post a0 a1 a2 a3 σ
    ) ∧
    (0 < (σ 0 53) →
      (0 ≤ ((σ 0 53) - 1) ∧ ((σ 0 53) - 1) < 3200) ∧
      (InR (σ 28 ((σ 0 53) - 1))) ∧
      ((¬ (σ 28 ((σ 0 53) - 1)) = 0 →
        wm_note_57 post a0 a1 a2 a3 σ
      ) ∧
      ((σ 28 ((σ 0 53) - 1)) = 0 →
        ∀ σ8 : ZS, σ8 = zst σ 30 ((σ 0 53) - 1) ((σ 30 ((σ 0 53) - 1)) + a2) →
        (0 ≤ ((σ8 0 53) - 1) ∧ ((σ8 0 53) - 1) < 3200) ∧
        ∀ σ10 : ZS, σ10 = zst σ8 31 ((σ8 0 53) - 1) ((σ8 31 ((σ8 0 53) - 1)) + a3) →
        post σ10
      ))
    ))
  ))
/- X13_has -/
def wm_has (a0 : Int) (a1 : Int) (a2 : Int) (σ : ZS) (post : Int → ZS → Prop) : Prop :=
  (0 ≤ ((3201 * a0) + a1) ∧ ((3201 * a0) + a1) < 22407) ∧
  ∀ v4_2 : Int, v4_2 = a2 - (σ 23 ((3201 * a0) + a1)) →
  (InR (σ 24 ((3201 * a0) + a1))) ∧
  (((σ 24 ((3201 * a0) + a1)) = 0 →
    post 0 σ
  ) ∧
  (¬ (σ 24 ((3201 * a0) + a1)) = 0 →
    (InR v4_2) ∧
    ((v4_2 < 0 →
      post 0 σ
    ) ∧
    (0 ≤ v4_2 →
      ((31 ≤ v4_2 →
        post 0 σ
      ) ∧
      (v4_2 < 31 →
        (InR ((zshr (σ 24 ((3201 * a0) + a1)) v4_2) % 2)) ∧
        ((¬ ((zshr (σ 24 ((3201 * a0) + a1)) v4_2) % 2) = 1 →
          post 0 σ
        ) ∧
        (((zshr (σ 24 ((3201 * a0) + a1)) v4_2) % 2) = 1 →
          post 1 σ
        ))
      ))
    ))
  ))
/- X13_isDigit -/
def wm_isDigit (a0 : Int) (σ : ZS) (post : Int → ZS → Prop) : Prop :=
  (InR a0) ∧
  ((a0 < 48 →
    post 0 σ
  ) ∧
  (48 ≤ a0 →
    ((57 < a0 →
      post 0 σ
    ) ∧
    (a0 ≤ 57 →
      post 1 σ
    ))
  ))
/- X13_isDigits -/
def wm_isDigits (a0 : Int) (σ : ZS) (post : Int → ZS → Prop) : Prop :=
  (InR (a0 + 1)) ∧
  (InR (σ 0 11)) ∧
  (((σ 0 11) ≤ (a0 + 1) →
    post 0 σ
  ) ∧
  ((a0 + 1) < (σ 0 11) →
    (0 ≤ a0 ∧ a0 < 3200) ∧
    wm_isDigit (σ 9 a0) σ (fun r6 σ5 => r6 = 0 ∨ r6 = 1 →
    ((r6 = 0 →
      post 0 σ5
    ) ∧
    (¬ r6 = 0 →
      (0 ≤ (a0 + 1) ∧ (a0 + 1) < 3200) ∧
      wm_isDigit (σ5 9 (a0 + 1)) σ5 (fun r11 σ10 => r11 = 0 ∨ r11 = 1 →
      ((r11 = 0 →
        post 0 σ10
      ) ∧
      (¬ r11 = 0 →
        post 1 σ10
      )))
    )))
  ))
/- X13_isTail -/
def wm_isTail_12 (post : Int → ZS → Prop) (v1 : Int) (v2 : Int) (σ : ZS) : Prop :=
  (InR v2) ∧
  ((¬ v2 = 0 →
    post 0 σ
  ) ∧
  (v2 = 0 →
    (InR v1) ∧
    (InR (σ 0 11)) ∧
    ((¬ v1 = (σ 0 11) →
      post 0 σ
    ) ∧
    (v1 = (σ 0 11) →
      post 1 σ
    ))
  ))
def wm_isTail_203 (post : Int → ZS → Prop) (v1 : Int) (σ : ZS) : Prop :=
  (InR (v1 + 1)) ∧
  (InR (σ 0 11)) ∧
  ((¬ (v1 + 1) = (σ 0 11) →
    post 0 σ
  ) ∧
  ((v1 + 1) = (σ 0 11) →
    (0 ≤ v1 ∧ v1 < 3200) ∧
    (InR (σ 9 v1)) ∧
    (((σ 9 v1) ≤ 127 →
      post 0 σ
    ) ∧
    (127 < (σ 9 v1) →
      post 1 σ
    ))
  ))
def wm_isTail_183 (post : Int → ZS → Prop) (v1 : Int) (σ : ZS) : Prop :=
  (InR (v1 + 3)) ∧
  (InR (σ 0 11)) ∧
  ((¬ (v1 + 3) = (σ 0 11) →
    wm_isTail_203 post v1 σ
  ) ∧
  ((v1 + 3) = (σ 0 11) →
    wm_isDigits (v1 + 1) σ (fun r5 σ4 => r5 = 0 ∨ r5 = 1 →
    ((¬ r5 = 0 →
      post 1 σ4
    ) ∧
    (r5 = 0 →
      wm_isTail_203 post v1 σ4
    )))
  ))
def wm_isTail_147 (post : Int → ZS → Prop) (v1 : Int) (σ : ZS) : Prop :=
  (0 ≤ v1 ∧ v1 < 3200) ∧
  (InR (σ 9 v1)) ∧
  ((128 ≤ (σ 9 v1) →
    wm_isTail_203 post v1 σ
  ) ∧
  ((σ 9 v1) < 128 →
    (InR (v1 + 2)) ∧
    (InR (σ 0 11)) ∧
    ((¬ (v1 + 2) = (σ 0 11) →
      wm_isTail_183 post v1 σ
    ) ∧
    ((v1 + 2) = (σ 0 11) →
      (0 ≤ (v1 + 1) ∧ (v1 + 1) < 3200) ∧
      (InR (σ 9 (v1 + 1))) ∧
      (((σ 9 (v1 + 1)) < 128 →
        post 1 σ
      ) ∧
      (128 ≤ (σ 9 (v1 + 1)) →
        wm_isTail_183 post v1 σ
      ))
    ))
  ))
def wm_isTail_123 (post : Int → ZS → Prop) (v1 : Int) (σ : ZS) : Prop :=
  (InR (v1 + 3)) ∧
  (InR (σ 0 11)) ∧
  ((¬ (v1 + 3) = (σ 0 11) →
    wm_isTail_147 post v1 σ
  ) ∧
  ((v1 + 3) = (σ 0 11) →
    (0 ≤ (v1 + 2) ∧ (v1 + 2) < 3200) ∧
    (InR (σ 9 (v1 + 2))) ∧
    (((σ 9 (v1 + 2)) < 128 →
      post 1 σ
    ) ∧
    (128 ≤ (σ 9 (v1 + 2)) →
      wm_isTail_147 post v1 σ
    ))
  ))
def wm_isTail_71 (post : Int → ZS → Prop) (v1 : Int) (σ : ZS) : Prop :=
  (InR (v1 + 1)) ∧
  (InR (σ 0 11)) ∧
  ((¬ (v1 + 1) = (σ 0 11) →
    post 0 σ
  ) ∧
  ((v1 + 1) = (σ 0 11) →
    (0 ≤ v1 ∧ v1 < 3200) ∧
    (InR (σ 9 v1)) ∧
    ((128 ≤ (σ 9 v1) →
      post 0 σ
    ) ∧
    ((σ 9 v1) < 128 →
      post 1 σ
    ))
  ))
def wm_isTail (a0 : Int) (a1 : Int) (σ : ZS) (post : Int → ZS → Prop) : Prop :=
  (InR a1) ∧
  ((a1 = 0 →
    wm_isTail_12 post a0 a1 σ
  ) ∧
  (¬ a1 = 0 →
    (InR a0) ∧
    (InR (σ 0 11)) ∧
    ((a0 < (σ 0 11) →
      ((a1 < 0 →
        post 0 σ
      ) ∧
      (0 ≤ a1 →
        (InR ((σ 0 11) - a0)) ∧
        ((((σ 0 11) - a0) ≤ 4 →
          wm_isDigits a0 σ (fun r10 σ9 => r10 = 0 ∨ r10 = 1 →
          ((¬ a1 = 1 →
            ((r10 = 0 →
              wm_isTail_147 post a0 σ9
            ) ∧
            (¬ r10 = 0 →
              (InR (a0 + 4)) ∧
              (InR (σ9 0 11)) ∧
              ((¬ (a0 + 4) = (σ9 0 11) →
                wm_isTail_123 post a0 σ9
              ) ∧
              ((a0 + 4) = (σ9 0 11) →
                wm_isDigits (a0 + 2) σ9 (fun r18 σ17 => r18 = 0 ∨ r18 = 1 →
                ((¬ r18 = 0 →
                  post 1 σ17
                ) ∧
                (r18 = 0 →
                  wm_isTail_123 post a0 σ17
                )))
              ))
            ))
          ) ∧
          (a1 = 1 →
            ((r10 = 0 →
              wm_isTail_71 post a0 σ9
            ) ∧
            (¬ r10 = 0 →
              (InR (a0 + 2)) ∧
              (InR (σ9 0 11)) ∧
              (((a0 + 2) = (σ9 0 11) →
                post 1 σ9
              ) ∧
              (¬ (a0 + 2) = (σ9 0 11) →
                wm_isTail_71 post a0 σ9
              ))
            ))
          )))
        ) ∧
        (4 < ((σ 0 11) - a0) →
          post 0 σ
        ))
      ))
    ) ∧
    ((σ 0 11) ≤ a0 →
      wm_isTail_12 post a0 a1 σ
    ))
  ))
/- X13_fits -/
def wm_fits (a0 : Int) (a1 : Int) (σ : ZS) (post : Int → ZS → Prop) : Prop :=
  (InR (σ 0 58)) ∧
  (((σ 0 58) = 0 →
    wm_has (σ 0 49) a0 a1 σ (fun r4 σ3 => r4 = 0 ∨ r4 = 1 →
    post r4 σ3)
  ) ∧
  (¬ (σ 0 58) = 0 →
    wm_isTail a0 a1 σ (fun r7 σ6 => r7 = 0 ∨ r7 = 1 →
    post r7 σ6)
  ))
/- X13_put -/
def wm_put (a0 : Int) (σ : ZS) (post : ZS → Prop) : Prop :=
  (0 ≤ (σ 0 59) ∧ (σ 0 59) < 2178) ∧
  ∀ σ2 : ZS, σ2 = zst σ 13 (σ 0 59) a0 →
  ∀ σ3 : ZS, σ3 = zst σ2 0 59 ((σ2 0 59) + 1) →
  post σ3
/- X13_oneOfAscii -/
def wm_oneOfAscii_94 (post : Int → ZS → Prop) (v1 : Int) (v2 : Int) (σ : ZS) : Prop :=
  (0 ≤ v1 ∧ v1 < 3200) ∧
  (InR (σ 9 v1)) ∧
  (((σ 9 v1) ≤ 127 →
    post 0 σ
  ) ∧
  (127 < (σ 9 v1) →
    wm_fits (v1 + 1) (v2 - 2) σ (fun r5 σ4 => r5 = 0 ∨ r5 = 1 →
    ((r5 = 0 →
      post 0 σ4
    ) ∧
    (¬ r5 = 0 →
      wm_put 235 σ4 (fun σ8 => 
      wm_put ((σ8 9 v1) - 127) σ8 (fun σ9 => 
      post 1 σ9))
    )))
  ))
def wm_oneOfAscii_55 (post : Int → ZS → Prop) (v1 : Int) (v2 : Int) (σ : ZS) : Prop :=
  (0 ≤ v1 ∧ v1 < 3200) ∧
  (InR (σ 9 v1)) ∧
  ((128 ≤ (σ 9 v1) →
    wm_oneOfAscii_94 post v1 v2 σ
  ) ∧
  ((σ 9 v1) < 128 →
    wm_fits (v1 + 1) (v2 - 1) σ (fun r5 σ4 => r5 = 0 ∨ r5 = 1 →
    ((r5 = 0 →
      wm_oneOfAscii_94 post v1 v2 σ4
    ) ∧
    (¬ r5 = 0 →
      wm_put ((σ4 9 v1) + 1) σ4 (fun σ8 => 
      post 1 σ8)
    )))
  ))
def wm_oneOfAscii (a0 : Int) (a1 : Int) (σ : ZS) (post : Int → ZS → Prop) : Prop :=
  wm_isDigits a0 σ (fun r2 σ1 => r2 = 0 ∨ r2 = 1 →
  ((r2 = 0 →
    wm_oneOfAscii_55 post a0 a1 σ1
  ) ∧
  (¬ r2 = 0 →
    wm_fits (a0 + 2) (a1 - 1) σ1 (fun r6 σ5 => r6 = 0 ∨ r6 = 1 →
    ((r6 = 0 →
      wm_oneOfAscii_55 post a0 a1 σ5
    ) ∧
    (¬ r6 = 0 →
      (0 ≤ a0 ∧ a0 < 3200) ∧
      (0 ≤ (a0 + 1) ∧ (a0 + 1) < 3200) ∧
      wm_put (((130 + (10 * ((σ5 9 a0) - 48))) + (σ5 9 (a0 + 1))) - 48) σ5 (fun σ11 => 
      post 2 σ11)
    )))
  )))
/- X13_mix -/
def wm_mix (a0 : Int) (σ : ZS) (post : ZS → Prop) : Prop :=
  (InR (149 * ((σ 0 59) + 1))) ∧
  (0 ≤ (149 * ((σ 0 59) + 1))) ∧
  wm_put ((((a0 + ((149 * ((σ 0 59) + 1)) % 255)) % 256) + 1) % 256) σ (fun σ3 => 
  post σ3)
/- X13_runBase -/
def wm_runBase_214 (post : Int → ZS → Prop) (v3 : Int) (t0 : Int) (σ : ZS) : Prop :=
  (t0 = 0 ∨ t0 = 1) ∧
  ∀ σ1 : ZS, σ1 = zst σ 0 58 t0 →
  post v3 σ1
def wbm_runBase_178 (post : Int → ZS → Prop) (C178 : Int × Int × Int × Int × ZS → Prop) : Int × Int × Int × Int × ZS → Prop := fun (v1, v3, v5, v7, σ) =>
  (InR v7) ∧
  (InR v3) ∧
  ((v3 ≤ v7 →
    (InR v5) ∧
    ((¬ v5 = 0 →
      wm_runBase_214 post v3 0 σ
    ) ∧
    (v5 = 0 →
      wm_runBase_214 post v3 1 σ
    ))
  ) ∧
  (v7 < v3 →
    (0 ≤ (v1 + v7) ∧ (v1 + v7) < 3200) ∧
    wm_mix (σ 9 (v1 + v7)) σ (fun σ7 => 
    C178 (v1, v3, v5, v7 + 1, σ7))
  ))
def wm_runBase_175 (post : Int → ZS → Prop) (v1 : Int) (v3 : Int) (v5 : Int) (σ : ZS) : Prop :=
  ∃ N : Nat, zfix (wbm_runBase_178 post) N (v1, v3, v5, 0, σ)
def wm_runBase_151 (post : Int → ZS → Prop) (v1 : Int) (v3 : Int) (v5 : Int) (t0 : Int) (σ : ZS) : Prop :=
  wm_mix t0 σ (fun σ1 => 
  (InR v5) ∧
  ((v5 = 0 →
    wm_runBase_175 post v1 v3 v5 σ1
  ) ∧
  (¬ v5 = 0 →
    (InR v3) ∧
    ((v3 ≤ 249 →
      wm_runBase_175 post v1 v3 v5 σ1
    ) ∧
    (249 < v3 →
      (0 ≤ v3) ∧
      wm_mix (v3 % 250) σ1 (fun σ7 => 
      wm_runBase_175 post v1 v3 v5 σ7)
    ))
  )))
def wm_runBase_114 (post : Int → ZS → Prop) (v1 : Int) (v3 : Int) (v5 : Int) (σ : ZS) : Prop :=
  wm_put 231 σ (fun σ1 => 
  (InR v5) ∧
  ((v5 = 0 →
    wm_runBase_151 post v1 v3 v5 0 σ1
  ) ∧
  (¬ v5 = 0 →
    (InR v3) ∧
    ((250 ≤ v3 →
      (0 ≤ v3) ∧
      wm_runBase_151 post v1 v3 v5 (249 + (v3 / 250)) σ1
    ) ∧
    (v3 < 250 →
      wm_runBase_151 post v1 v3 v5 v3 σ1
    ))
  )))
def wm_runBase_102 (C2 : Int × Int × Int × ZS → Prop) (post : Int → ZS → Prop) (v1 : Int) (v2 : Int) (v3 : Int) (v5 : Int) (t0 : Int) (σ : ZS) : Prop :=
  (InR v5) ∧
  ((¬ v5 = 0 →
    wm_runBase_114 post v1 v3 v5 σ
  ) ∧
  (v5 = 0 →
    (InR t0) ∧
    ((t0 = 0 →
      C2 (v1, v2, v3 + 1, σ)
    ) ∧
    (¬ t0 = 0 →
      wm_runBase_114 post v1 v3 v5 σ
    ))
  ))
def wm_runBase_101 (C2 : Int × Int × Int × ZS → Prop) (post : Int → ZS → Prop) (v1 : Int) (v2 : Int) (v3 : Int) (v5 : Int) (σ : ZS) : Prop :=
  wm_runBase_102 C2 post v1 v2 v3 v5 0 σ
def wm_runBase_64 (C2 : Int × Int × Int × ZS → Prop) (post : Int → ZS → Prop) (v1 : Int) (v2 : Int) (v3 : Int) (t0 : Int) (σ : ZS) : Prop :=
  (InR (σ 0 48)) ∧
  ((¬ (σ 0 48) = 0 →
    wm_runBase_101 C2 post v1 v2 v3 t0 σ
  ) ∧
  ((σ 0 48) = 0 →
    (InR (σ 0 47)) ∧
    ((¬ (σ 0 47) = 0 →
      wm_runBase_101 C2 post v1 v2 v3 t0 σ
    ) ∧
    ((σ 0 47) = 0 →
      (InR (v1 + v3)) ∧
      (InR (σ 0 11)) ∧
      ((¬ (v1 + v3) = (σ 0 11) →
        wm_runBase_101 C2 post v1 v2 v3 t0 σ
      ) ∧
      ((v1 + v3) = (σ 0 11) →
        (InR (v3 + 2)) ∧
        (InR v2) ∧
        ((¬ (v3 + 2) = v2 →
          wm_runBase_101 C2 post v1 v2 v3 t0 σ
        ) ∧
        ((v3 + 2) = v2 →
          wm_runBase_102 C2 post v1 v2 v3 t0 1 σ
        ))
      ))
    ))
  ))
def wm_runBase_63 (C2 : Int × Int × Int × ZS → Prop) (post : Int → ZS → Prop) (v1 : Int) (v2 : Int) (v3 : Int) (σ : ZS) : Prop :=
  wm_runBase_64 C2 post v1 v2 v3 0 σ
def wm_runBase_25 (C2 : Int × Int × Int × ZS → Prop) (post : Int → ZS → Prop) (v1 : Int) (v2 : Int) (v3 : Int) (t0 : Int) (t1 : Int) (σ : ZS) : Prop :=
  ∀ v4_1 : Int, v4_1 = t1 + t0 →
  (InR v3) ∧
  ((1755 < v3 →
    wm_runBase_63 C2 post v1 v2 v3 σ
  ) ∧
  (v3 ≤ 1755 →
    (InR v4_1) ∧
    (InR v2) ∧
    ((v2 < v4_1 →
      wm_runBase_63 C2 post v1 v2 v3 σ
    ) ∧
    (v4_1 ≤ v2 →
      wm_has (σ 0 49) (v1 + v3) (v2 - v4_1) σ (fun r8 σ7 => r8 = 0 ∨ r8 = 1 →
      ((r8 = 0 →
        wm_runBase_63 C2 post v1 v2 v3 σ7
      ) ∧
      (¬ r8 = 0 →
        wm_runBase_64 C2 post v1 v2 v3 1 σ7
      )))
    ))
  ))
def wbm_runBase_2 (post : Int → ZS → Prop) (C2 : Int × Int × Int × ZS → Prop) : Int × Int × Int × ZS → Prop := fun (v1, v2, v3, σ) =>
  (InR v3) ∧
  (InR ((σ 0 11) - v1)) ∧
  ((((σ 0 11) - v1) < v3 →
    post 0 σ
  ) ∧
  (v3 ≤ ((σ 0 11) - v1) →
    ((250 ≤ v3 →
      wm_runBase_25 C2 post v1 v2 v3 3 v3 σ
    ) ∧
    (v3 < 250 →
      wm_runBase_25 C2 post v1 v2 v3 2 v3 σ
    ))
  ))
def wm_runBase (a0 : Int) (a1 : Int) (σ : ZS) (post : Int → ZS → Prop) : Prop :=
  ∃ N : Nat, zfix (wbm_runBase_2 post) N (a0, a1, 1, σ)
/- X13_endsOpen -/
def wm_endsOpen (a0 : Int) (a1 : Int) (a2 : Int) (σ : ZS) (post : Int → ZS → Prop) : Prop :=
  (InR (σ 0 48)) ∧
  ((¬ (σ 0 48) = 0 →
    post 0 σ
  ) ∧
  ((σ 0 48) = 0 →
    (InR a1) ∧
    ((a1 < 0 →
      post 0 σ
    ) ∧
    (0 ≤ a1 →
      (InR (a2 - (σ 0 47))) ∧
      (((a2 - (σ 0 47)) < a1 →
        post 0 σ
      ) ∧
      (a1 ≤ (a2 - (σ 0 47)) →
        wm_isTail a0 a1 σ (fun r8 σ7 => r8 = 0 ∨ r8 = 1 →
        ((r8 = 0 →
          post 0 σ7
        ) ∧
        (¬ r8 = 0 →
          post 1 σ7
        )))
      ))
    ))
  ))
/- X13_isSix -/
def wm_isSix (a0 : Int) (σ : ZS) (post : Int → ZS → Prop) : Prop :=
  (InR a0) ∧
  ((a0 < 32 →
    post 0 σ
  ) ∧
  (32 ≤ a0 →
    ((94 < a0 →
      post 0 σ
    ) ∧
    (a0 ≤ 94 →
      post 1 σ
    ))
  ))
/- X13_lastWords -/
def wm_lastWords (a0 : Int) (σ : ZS) (post : Int → ZS → Prop) : Prop :=
  (InR a0) ∧
  ((¬ a0 = 0 →
    ((¬ a0 = 1 →
      post 3 σ
    ) ∧
    (a0 = 1 →
      post 2 σ
    ))
  ) ∧
  (a0 = 0 →
    post 1 σ
  ))
/- X13_putSixes -/
def wbm_putSixes_131 (post : ZS → Prop) (C131 : Int × Int × Int × ZS → Prop) : Int × Int × Int × ZS → Prop := fun (v4, v5, v6, σ) =>
  (InR v6) ∧
  (InR v5) ∧
  ((v5 ≤ v6 →
    post σ
  ) ∧
  (v6 < v5 →
    wm_put ((zshr v4 (16 - (8 * v6))) % 256) σ (fun σ4 => 
    C131 (v4, v5, v6 + 1, σ4))
  ))
def wm_putSixes_60 (C16 : Int × Int × Int × Int × Int × Int × ZS → Prop) (post : ZS → Prop) (v1 : Int) (v2 : Int) (v3 : Int) (v5 : Int) (v6 : Int) (t0 : Int) (t1 : Int) (σ : ZS) : Prop :=
  ∀ v4_1 : Int, v4_1 = zor t1 t0 →
  (InR (v5 + 1)) ∧
  ((¬ (v5 + 1) = 4 →
    C16 (v1, v2, v3, v4_1, v5 + 1, v6 + 1, σ)
  ) ∧
  ((v5 + 1) = 4 →
    (InR v4_1) ∧
    wm_put (v4_1 / 65536) σ (fun σ5 => 
    wm_put ((v4_1 / 256) % 256) σ5 (fun σ6 => 
    wm_put (v4_1 % 256) σ6 (fun σ7 => 
    C16 (v1, v2, v3, 0, 0, v6 + 1, σ7))))
  ))
def wm_putSixes_28 (C16 : Int × Int × Int × Int × Int × Int × ZS → Prop) (post : ZS → Prop) (v1 : Int) (v2 : Int) (v3 : Int) (v4 : Int) (v5 : Int) (v6 : Int) (t0 : Int) (t1 : Int) (t2 : Int) (σ : ZS) : Prop :=
  (InR t2) ∧
  (InR (t1 + t0)) ∧
  (((t1 + t0) ≤ t2 →
    ∀ v4_4 : Int, v4_4 = zshl v4 (6 * (4 - v5)) →
    ∃ N : Nat, zfix (wbm_putSixes_131 post) N (v4_4, v5, 0, σ)
  ) ∧
  (t2 < (t1 + t0) →
    (InR v6) ∧
    (InR v2) ∧
    ((v2 ≤ v6 →
      wm_putSixes_60 C16 post v1 v2 v3 v5 v6 31 (v4 * 64) σ
    ) ∧
    (v6 < v2 →
      (0 ≤ (v1 + v6) ∧ (v1 + v6) < 3200) ∧
      wm_putSixes_60 C16 post v1 v2 v3 v5 v6 ((σ 9 (v1 + v6)) % 64) (v4 * 64) σ
    ))
  ))
def wbm_putSixes_16 (post : ZS → Prop) (C16 : Int × Int × Int × Int × Int × Int × ZS → Prop) : Int × Int × Int × Int × Int × Int × ZS → Prop := fun (v1, v2, v3, v4, v5, v6, σ) =>
  (InR v3) ∧
  ((v3 = 0 →
    wm_putSixes_28 C16 post v1 v2 v3 v4 v5 v6 0 v2 v6 σ
  ) ∧
  (¬ v3 = 0 →
    wm_putSixes_28 C16 post v1 v2 v3 v4 v5 v6 1 v2 v6 σ
  ))
def wm_putSixes (a0 : Int) (a1 : Int) (a2 : Int) (σ : ZS) (post : ZS → Prop) : Prop :=
  wm_put 240 σ (fun σ1 => 
  ∃ N : Nat, zfix (wbm_putSixes_16 post) N (a0, a1, a2, 0, 0, 0, σ1))
/- X13_runSixes -/
def wm_runSixes_149 (post : Int → ZS → Prop) (v3 : Int) (t0 : Int) (σ : ZS) : Prop :=
  (t0 = 0 ∨ t0 = 1) ∧
  ∀ σ1 : ZS, σ1 = zst σ 0 58 t0 →
  post v3 σ1
def wm_runSixes_130 (post : Int → ZS → Prop) (v1 : Int) (v3 : Int) (v7 : Int) (σ : ZS) : Prop :=
  wm_putSixes v1 v3 v7 σ (fun σ1 => 
  (InR v7) ∧
  ((¬ v7 = 0 →
    wm_runSixes_149 post v3 0 σ1
  ) ∧
  (v7 = 0 →
    wm_runSixes_149 post v3 1 σ1
  )))
def wm_runSixes_102 (C2 : Int × Int × Int × ZS → Prop) (post : Int → ZS → Prop) (v1 : Int) (v2 : Int) (v3 : Int) (v4 : Int) (t0 : Int) (σ : ZS) : Prop :=
  (InR t0) ∧
  ((¬ t0 = 0 →
    wm_runSixes_130 post v1 v3 t0 σ
  ) ∧
  (t0 = 0 →
    (InR v3) ∧
    (0 ≤ v3) ∧
    (InR (v3 % 4)) ∧
    ((¬ (v3 % 4) = 0 →
      C2 (v1, v2, v3 + 1, σ)
    ) ∧
    ((v3 % 4) = 0 →
      wm_endsOpen (v1 + v3) (v2 - v4) 2 σ (fun r8 σ7 => r8 = 0 ∨ r8 = 1 →
      ((r8 = 0 →
        C2 (v1, v2, v3 + 1, σ7)
      ) ∧
      (¬ r8 = 0 →
        wm_runSixes_130 post v1 v3 t0 σ7
      )))
    ))
  ))
def wm_runSixes_101 (C2 : Int × Int × Int × ZS → Prop) (post : Int → ZS → Prop) (v1 : Int) (v2 : Int) (v3 : Int) (v4 : Int) (σ : ZS) : Prop :=
  wm_runSixes_102 C2 post v1 v2 v3 v4 0 σ
def wbm_runSixes_2 (post : Int → ZS → Prop) (C2 : Int × Int × Int × ZS → Prop) : Int × Int × Int × ZS → Prop := fun (v1, v2, v3, σ) =>
  (InR v3) ∧
  (InR ((σ 0 11) - v1)) ∧
  ((((σ 0 11) - v1) < v3 →
    post 0 σ
  ) ∧
  (v3 ≤ ((σ 0 11) - v1) →
    (0 ≤ ((v1 + v3) - 1) ∧ ((v1 + v3) - 1) < 3200) ∧
    wm_isSix (σ 9 ((v1 + v3) - 1)) σ (fun r6 σ5 => r6 = 0 ∨ r6 = 1 →
    ((r6 = 0 →
      post 0 σ5
    ) ∧
    (¬ r6 = 0 →
      (0 ≤ v3) ∧
      ∀ v4_10 : Int, v4_10 = 1 + (3 * (v3 / 4)) →
      (InR v4_10) ∧
      (InR v2) ∧
      ((v4_10 ≤ v2 →
        wm_lastWords (v3 % 4) σ5 (fun r15 σ14 => 
        ∀ v6_16 : Int, v6_16 = (v2 - v4_10) - r15 →
        (InR v6_16) ∧
        ((v6_16 < 0 →
          wm_runSixes_101 C2 post v1 v2 v3 v4_10 σ14
        ) ∧
        (0 ≤ v6_16 →
          (InR ((3 - r15) - (σ14 0 47))) ∧
          ((v6_16 < ((3 - r15) - (σ14 0 47)) →
            wm_runSixes_101 C2 post v1 v2 v3 v4_10 σ14
          ) ∧
          (((3 - r15) - (σ14 0 47)) ≤ v6_16 →
            wm_has (σ14 0 49) (v1 + v3) v6_16 σ14 (fun r22 σ21 => r22 = 0 ∨ r22 = 1 →
            ((r22 = 0 →
              wm_runSixes_101 C2 post v1 v2 v3 v4_10 σ21
            ) ∧
            (¬ r22 = 0 →
              wm_runSixes_102 C2 post v1 v2 v3 v4_10 1 σ21
            )))
          ))
        )))
      ) ∧
      (v2 < v4_10 →
        post 0 σ5
      ))
    )))
  ))
def wm_runSixes (a0 : Int) (a1 : Int) (σ : ZS) (post : Int → ZS → Prop) : Prop :=
  ∃ N : Nat, zfix (wbm_runSixes_2 post) N (a0, a1, 1, σ)
/- X13_spellSmall -/
def wm_spellSmall_316 (post : Int → ZS → Prop) (v3 : Int) (t0 : Int) (t1 : Int) (σ : ZS) : Prop :=
  (0 ≤ t1 ∧ t1 < 4) ∧
  ∀ σ2 : ZS, σ2 = zst σ 27 t1 t0 →
  post (v3 + 2) σ2
def wm_spellSmall_289 (post : Int → ZS → Prop) (v2 : Int) (v3 : Int) (t0 : Int) (σ : ZS) : Prop :=
  wm_spellSmall_316 post v3 (v2 - 96) t0 σ
def wm_spellSmall_216 (post : Int → ZS → Prop) (v1 : Int) (v2 : Int) (v3 : Int) (v6 : Int) (t0 : Int) (t1 : Int) (σ : ZS) : Prop :=
  (0 ≤ t1 ∧ t1 < 4) ∧
  ∀ σ2 : ZS, σ2 = zst σ 27 t1 t0 →
  (InR v2) ∧
  ((32 ≤ v2 →
    (InR v6) ∧
    ((v6 = 0 →
      (InR v1) ∧
      ((v1 = 4 →
        wm_spellSmall_289 post v2 v3 (v3 + 1) σ2
      ) ∧
      (¬ v1 = 4 →
        ((¬ v2 = 96 →
          ((91 ≤ v2 →
            wm_spellSmall_316 post v3 ((v2 - 123) + 27) (v3 + 1) σ2
          ) ∧
          (v2 < 91 →
            wm_spellSmall_316 post v3 (v2 - 64) (v3 + 1) σ2
          ))
        ) ∧
        (v2 = 96 →
          wm_spellSmall_289 post v2 v3 (v3 + 1) σ2
        ))
      ))
    ) ∧
    (¬ v6 = 0 →
      ((48 ≤ v2 →
        ((65 ≤ v2 →
          wm_spellSmall_316 post v3 ((v2 - 91) + 22) (v3 + 1) σ2
        ) ∧
        (v2 < 65 →
          wm_spellSmall_316 post v3 ((v2 - 58) + 15) (v3 + 1) σ2
        ))
      ) ∧
      (v2 < 48 →
        wm_spellSmall_316 post v3 (v2 - 33) (v3 + 1) σ2
      ))
    ))
  ) ∧
  (v2 < 32 →
    wm_spellSmall_316 post v3 v2 (v3 + 1) σ2
  ))
def wm_spellSmall_189 (post : Int → ZS → Prop) (v1 : Int) (v2 : Int) (v3 : Int) (t0 : Int) (σ : ZS) : Prop :=
  (InR v2) ∧
  ((32 ≤ v2 →
    (InR t0) ∧
    ((t0 = 0 →
      wm_spellSmall_216 post v1 v2 v3 t0 2 v3 σ
    ) ∧
    (¬ t0 = 0 →
      wm_spellSmall_216 post v1 v2 v3 t0 1 v3 σ
    ))
  ) ∧
  (v2 < 32 →
    wm_spellSmall_216 post v1 v2 v3 t0 0 v3 σ
  ))
def wm_spellSmall_188 (post : Int → ZS → Prop) (v1 : Int) (v2 : Int) (v3 : Int) (σ : ZS) : Prop :=
  wm_spellSmall_189 post v1 v2 v3 0 σ
def wm_spellSmall_172 (post : Int → ZS → Prop) (v1 : Int) (v2 : Int) (v3 : Int) (σ : ZS) : Prop :=
  (InR v2) ∧
  ((v2 < 91 →
    wm_spellSmall_188 post v1 v2 v3 σ
  ) ∧
  (91 ≤ v2 →
    ((95 < v2 →
      wm_spellSmall_188 post v1 v2 v3 σ
    ) ∧
    (v2 ≤ 95 →
      wm_spellSmall_189 post v1 v2 v3 1 σ
    ))
  ))
def wm_spellSmall_160 (post : Int → ZS → Prop) (v1 : Int) (v2 : Int) (v3 : Int) (σ : ZS) : Prop :=
  (InR v2) ∧
  ((v2 < 58 →
    wm_spellSmall_172 post v1 v2 v3 σ
  ) ∧
  (58 ≤ v2 →
    ((v2 ≤ 64 →
      wm_spellSmall_189 post v1 v2 v3 1 σ
    ) ∧
    (64 < v2 →
      wm_spellSmall_172 post v1 v2 v3 σ
    ))
  ))
def wm_spellSmall_110 (post : Int → ZS → Prop) (v3 : Int) (t0 : Int) (σ : ZS) : Prop :=
  (0 ≤ v3 ∧ v3 < 4) ∧
  ∀ σ2 : ZS, σ2 = zst σ 27 v3 t0 →
  (InR t0) ∧
  ((0 ≤ t0 →
    post 1 σ2
  ) ∧
  (t0 < 0 →
    post 0 σ2
  ))
def wm_spellSmall_70 (post : Int → ZS → Prop) (v1 : Int) (v2 : Int) (v3 : Int) (t0 : Int) (σ : ZS) : Prop :=
  (InR v1) ∧
  ((¬ v1 = 6 →
    (InR t0) ∧
    ((t0 < 0 →
      (InR v2) ∧
      ((v2 < 33 →
        wm_spellSmall_160 post v1 v2 v3 σ
      ) ∧
      (33 ≤ v2 →
        ((v2 ≤ 47 →
          wm_spellSmall_189 post v1 v2 v3 1 σ
        ) ∧
        (47 < v2 →
          wm_spellSmall_160 post v1 v2 v3 σ
        ))
      ))
    ) ∧
    (0 ≤ t0 →
      (0 ≤ v3 ∧ v3 < 4) ∧
      ∀ σ9 : ZS, σ9 = zst σ 27 v3 t0 →
      post (v3 + 1) σ9
    ))
  ) ∧
  (v1 = 6 →
    (InR v2) ∧
    ((¬ v2 = 13 →
      ((¬ v2 = 42 →
        ((¬ v2 = 62 →
          wm_spellSmall_110 post v3 t0 σ
        ) ∧
        (v2 = 62 →
          wm_spellSmall_110 post v3 2 σ
        ))
      ) ∧
      (v2 = 42 →
        wm_spellSmall_110 post v3 1 σ
      ))
    ) ∧
    (v2 = 13 →
      wm_spellSmall_110 post v3 0 σ
    ))
  ))
def wm_spellSmall_68 (post : Int → ZS → Prop) (v1 : Int) (v2 : Int) (v3 : Int) (v4 : Int) (σ : ZS) : Prop :=
  wm_spellSmall_70 post v1 v2 v3 v4 σ
def wm_spellSmall_41 (post : Int → ZS → Prop) (v1 : Int) (v2 : Int) (v3 : Int) (v4 : Int) (t0 : Int) (σ : ZS) : Prop :=
  (InR v2) ∧
  (InR t0) ∧
  ((v2 < t0 →
    wm_spellSmall_68 post v1 v2 v3 v4 σ
  ) ∧
  (t0 ≤ v2 →
    (InR (t0 + 26)) ∧
    (((t0 + 26) ≤ v2 →
      wm_spellSmall_68 post v1 v2 v3 v4 σ
    ) ∧
    (v2 < (t0 + 26) →
      wm_spellSmall_70 post v1 v2 v3 ((v2 - t0) + 14) σ
    ))
  ))
def wm_spellSmall_27 (post : Int → ZS → Prop) (v1 : Int) (v2 : Int) (v3 : Int) (t0 : Int) (σ : ZS) : Prop :=
  (InR v1) ∧
  ((¬ v1 = 5 →
    wm_spellSmall_41 post v1 v2 v3 t0 65 σ
  ) ∧
  (v1 = 5 →
    wm_spellSmall_41 post v1 v2 v3 t0 97 σ
  ))
def wm_spellSmall (a0 : Int) (a1 : Int) (a2 : Int) (σ : ZS) (post : Int → ZS → Prop) : Prop :=
  (InR a1) ∧
  ((¬ a1 = 32 →
    wm_isDigit a1 σ (fun r4 σ3 => r4 = 0 ∨ r4 = 1 →
    ((r4 = 0 →
      wm_spellSmall_27 post a0 a1 a2 (-1) σ3
    ) ∧
    (¬ r4 = 0 →
      wm_spellSmall_27 post a0 a1 a2 ((a1 - 48) + 4) σ3
    )))
  ) ∧
  (a1 = 32 →
    wm_spellSmall_27 post a0 a1 a2 3 σ
  ))
/- X13_spell -/
def wm_spell_27 (post : Int → ZS → Prop) (t0 : Int) (σ : ZS) : Prop :=
  ∀ σ1 : ZS, σ1 = zst σ 27 0 1 →
  ∀ σ2 : ZS, σ2 = zst σ1 27 1 30 →
  post t0 σ2
def wm_spell (a0 : Int) (a1 : Int) (σ : ZS) (post : Int → ZS → Prop) : Prop :=
  (InR a1) ∧
  ((a1 ≤ 127 →
    wm_spellSmall a0 a1 0 σ (fun r4 σ3 => 
    post r4 σ3)
  ) ∧
  (127 < a1 →
    (InR a0) ∧
    ((¬ a0 = 6 →
      wm_spellSmall a0 (a1 - 128) 2 σ (fun r8 σ7 => 
      wm_spell_27 post r8 σ7)
    ) ∧
    (a0 = 6 →
      wm_spell_27 post 0 σ
    ))
  ))
/- X13_putThrees -/
def wm_putThrees_102 (C38 : Int × Int × Int × Int × Int × Int × ZS → Prop) (C63 : Int × Int × Int × Int × Int × Int × Int × Int × ZS → Prop) (post : ZS → Prop) (v1 : Int) (v2 : Int) (v3 : Int) (v4 : Int) (v6 : Int) (v7 : Int) (v8 : Int) (t0 : Int) (t1 : Int) (t2 : Int) (σ : ZS) : Prop :=
  ∀ v5_1 : Int, v5_1 = t2 + (t1 * t0) →
  (InR (v4 + 1)) ∧
  ((¬ (v4 + 1) = 3 →
    C63 (v1, v2, v3, v4 + 1, v5_1, v6, v7, v8 + 1, σ)
  ) ∧
  ((v4 + 1) = 3 →
    (InR v5_1) ∧
    wm_put (v5_1 / 256) σ (fun σ5 => 
    wm_put (v5_1 % 256) σ5 (fun σ6 => 
    C63 (v1, v2, v3, 0, 1, v6, v7, v8 + 1, σ6)))
  ))
def wbm_putThrees_63 (C38 : Int × Int × Int × Int × Int × Int × ZS → Prop) (post : ZS → Prop) (C63 : Int × Int × Int × Int × Int × Int × Int × Int × ZS → Prop) : Int × Int × Int × Int × Int × Int × Int × Int × ZS → Prop := fun (v1, v2, v3, v4, v5, v6, v7, v8, σ) =>
  (InR v8) ∧
  (InR v7) ∧
  ((v7 ≤ v8 →
    C38 (v1, v2, v3, v4, v5, v6 + 1, σ)
  ) ∧
  (v8 < v7 →
    (0 ≤ v8 ∧ v8 < 4) ∧
    (InR v4) ∧
    ((¬ v4 = 0 →
      ((¬ v4 = 1 →
        wm_putThrees_102 C38 C63 post v1 v2 v3 v4 v6 v7 v8 1 (σ 27 v8) v5 σ
      ) ∧
      (v4 = 1 →
        wm_putThrees_102 C38 C63 post v1 v2 v3 v4 v6 v7 v8 40 (σ 27 v8) v5 σ
      ))
    ) ∧
    (v4 = 0 →
      wm_putThrees_102 C38 C63 post v1 v2 v3 v4 v6 v7 v8 1600 (σ 27 v8) v5 σ
    ))
  ))
def wbm_putThrees_38 (post : ZS → Prop) (C38 : Int × Int × Int × Int × Int × Int × ZS → Prop) : Int × Int × Int × Int × Int × Int × ZS → Prop := fun (v1, v2, v3, v4, v5, v6, σ) =>
  (InR v6) ∧
  (InR (v2 + v3)) ∧
  (((v2 + v3) ≤ v6 →
    (InR v4) ∧
    ((¬ v4 = 2 →
      post σ
    ) ∧
    (v4 = 2 →
      (InR v5) ∧
      wm_put (v5 / 256) σ (fun σ7 => 
      wm_put (v5 % 256) σ7 (fun σ8 => 
      post σ8))
    ))
  ) ∧
  (v6 < (v2 + v3) →
    (0 ≤ v6 ∧ v6 < 3200) ∧
    wm_spell v1 (σ 9 v6) σ (fun r11 σ10 => 
    ∃ N : Nat, zfix (wbm_putThrees_63 C38 post) N (v1, v2, v3, v4, v5, v6, r11, 0, σ10))
  ))
def wm_putThrees_26 (post : ZS → Prop) (v1 : Int) (v2 : Int) (v3 : Int) (t0 : Int) (σ : ZS) : Prop :=
  wm_put t0 σ (fun σ1 => 
  ∃ N : Nat, zfix (wbm_putThrees_38 post) N (v1, v2, v3, 0, 1, v2, σ1))
def wm_putThrees (a0 : Int) (a1 : Int) (a2 : Int) (σ : ZS) (post : ZS → Prop) : Prop :=
  (InR a0) ∧
  ((¬ a0 = 4 →
    ((¬ a0 = 5 →
      wm_putThrees_26 post a0 a1 a2 238 σ
    ) ∧
    (a0 = 5 →
      wm_putThrees_26 post a0 a1 a2 239 σ
    ))
  ) ∧
  (a0 = 4 →
    wm_putThrees_26 post a0 a1 a2 230 σ
  ))
/- X13_runThrees -/
def wm_runThrees_156 (post : Int → ZS → Prop) (v1 : Int) (v2 : Int) (v5 : Int) (v8 : Int) (σ : ZS) : Prop :=
  wm_putThrees v1 v2 v5 σ (fun σ1 => 
  (InR v8) ∧
  ((v8 = 0 →
    ∀ σ4 : ZS, σ4 = zst σ1 0 58 1 →
    post v5 σ4
  ) ∧
  (¬ v8 = 0 →
    wm_put 254 σ1 (fun σ5 => 
    post v5 σ5)
  )))
def wm_runThrees_133 (C6 : Int × Int × Int × Int × Int × ZS → Prop) (post : Int → ZS → Prop) (v1 : Int) (v2 : Int) (v3 : Int) (v4 : Int) (v5 : Int) (v7 : Int) (t0 : Int) (σ : ZS) : Prop :=
  (InR t0) ∧
  ((¬ t0 = 0 →
    wm_runThrees_156 post v1 v2 v5 t0 σ
  ) ∧
  (t0 = 0 →
    wm_endsOpen (v2 + v5) (v3 - v7) 1 σ (fun r4 σ3 => r4 = 0 ∨ r4 = 1 →
    ((r4 = 0 →
      C6 (v1, v2, v3, v4, v5 + 1, σ3)
    ) ∧
    (¬ r4 = 0 →
      wm_runThrees_156 post v1 v2 v5 t0 σ3
    )))
  ))
def wm_runThrees_132 (C6 : Int × Int × Int × Int × Int × ZS → Prop) (post : Int → ZS → Prop) (v1 : Int) (v2 : Int) (v3 : Int) (v4 : Int) (v5 : Int) (v7 : Int) (σ : ZS) : Prop :=
  wm_runThrees_133 C6 post v1 v2 v3 v4 v5 v7 0 σ
def wm_runThrees_92 (C6 : Int × Int × Int × Int × Int × ZS → Prop) (post : Int → ZS → Prop) (v1 : Int) (v2 : Int) (v3 : Int) (v4 : Int) (v5 : Int) (v7 : Int) (σ : ZS) : Prop :=
  (InR ((v3 - v7) - 1)) ∧
  (InR (1 - (σ 0 47))) ∧
  ((((v3 - v7) - 1) < (1 - (σ 0 47)) →
    wm_runThrees_132 C6 post v1 v2 v3 v4 v5 v7 σ
  ) ∧
  ((1 - (σ 0 47)) ≤ ((v3 - v7) - 1) →
    wm_has (σ 0 49) (v2 + v5) ((v3 - v7) - 1) σ (fun r5 σ4 => r5 = 0 ∨ r5 = 1 →
    ((r5 = 0 →
      wm_runThrees_132 C6 post v1 v2 v3 v4 v5 v7 σ4
    ) ∧
    (¬ r5 = 0 →
      wm_runThrees_133 C6 post v1 v2 v3 v4 v5 v7 1 σ4
    )))
  ))
def wbm_runThrees_6 (post : Int → ZS → Prop) (C6 : Int × Int × Int × Int × Int × ZS → Prop) : Int × Int × Int × Int × Int × ZS → Prop := fun (v1, v2, v3, v4, v5, σ) =>
  (InR v5) ∧
  (InR ((σ 0 11) - v2)) ∧
  ((((σ 0 11) - v2) < v5 →
    post 0 σ
  ) ∧
  (v5 ≤ ((σ 0 11) - v2) →
    (0 ≤ ((v2 + v5) - 1) ∧ ((v2 + v5) - 1) < 3200) ∧
    wm_spell v1 (σ 9 ((v2 + v5) - 1)) σ (fun r6 σ5 => 
    ∀ v4_7 : Int, v4_7 = v4 + r6 →
    (InR (v4_7 + 1)) ∧
    (0 ≤ (v4_7 + 1)) ∧
    ∀ v7_10 : Int, v7_10 = 1 + (2 * ((v4_7 + 1) / 3)) →
    (InR r6) ∧
    ((r6 = 0 →
      post 0 σ5
    ) ∧
    (¬ r6 = 0 →
      (InR v7_10) ∧
      (InR v3) ∧
      ((v7_10 ≤ v3 →
        (InR v4_7) ∧
        (0 ≤ v4_7) ∧
        (InR (v4_7 % 3)) ∧
        (((v4_7 % 3) = 1 →
          C6 (v1, v2, v3, v4_7, v5 + 1, σ5)
        ) ∧
        (¬ (v4_7 % 3) = 1 →
          ((¬ (v4_7 % 3) = 2 →
            wm_runThrees_92 C6 post v1 v2 v3 v4_7 v5 v7_10 σ5
          ) ∧
          ((v4_7 % 3) = 2 →
            (InR v1) ∧
            ((¬ v1 = 6 →
              wm_runThrees_92 C6 post v1 v2 v3 v4_7 v5 v7_10 σ5
            ) ∧
            (v1 = 6 →
              C6 (v1, v2, v3, v4_7, v5 + 1, σ5)
            ))
          ))
        ))
      ) ∧
      (v3 < v7_10 →
        post 0 σ5
      ))
    )))
  ))
def wm_runThrees (a0 : Int) (a1 : Int) (a2 : Int) (σ : ZS) (post : Int → ZS → Prop) : Prop :=
  ∃ N : Nat, zfix (wbm_runThrees_6 post) N (a0, a1, a2, 0, 1, σ)
/- X13_run -/
def wm_run (a0 : Int) (a1 : Int) (a2 : Int) (σ : ZS) (post : Int → ZS → Prop) : Prop :=
  (InR (σ 0 58)) ∧
  (((σ 0 58) = 0 →
    (InR a0) ∧
    ((¬ a0 = 8 →
      ((¬ a0 = 7 →
        wm_runThrees a0 a1 a2 σ (fun r7 σ6 => 
        post r7 σ6)
      ) ∧
      (a0 = 7 →
        wm_runSixes a1 a2 σ (fun r9 σ8 => 
        post r9 σ8)
      ))
    ) ∧
    (a0 = 8 →
      wm_runBase a1 a2 σ (fun r11 σ10 => 
      post r11 σ10)
    ))
  ) ∧
  (¬ (σ 0 58) = 0 →
    post 0 σ
  ))
/- X13_build -/
def wm_build_134 (C19 : Int × Int × ZS → Prop) (post : ZS → Prop) (v2 : Int) (t0 : Int) (t1 : Int) (σ : ZS) : Prop :=
  ∀ v3_1 : Int, v3_1 = t1 + t0 →
  C19 (v2, v3_1, σ)
def wm_build_93 (C19 : Int × Int × ZS → Prop) (post : ZS → Prop) (v2 : Int) (v3 : Int) (v4 : Int) (v5 : Int) (v6 : Int) (σ : ZS) : Prop :=
  wm_note v6 v3 v5 ((σ 0 59) - v4) σ (fun σ1 => 
  ∀ v2_2 : Int, v2_2 = v2 - ((σ1 0 59) - v4) →
  (InR v5) ∧
  ((¬ v5 = 0 →
    wm_build_134 C19 post v2_2 v5 v3 σ1
  ) ∧
  (v5 = 0 →
    wm_build_134 C19 post v2_2 (σ1 0 11) v3 σ1
  )))
def wm_build_87 (C19 : Int × Int × ZS → Prop) (C53 : Int × Int × Int × Int × Int × ZS → Prop) (post : ZS → Prop) (v2 : Int) (v3 : Int) (v4 : Int) (v5 : Int) (t0 : Int) (t1 : Int) (σ : ZS) : Prop :=
  ∀ v6_1 : Int, v6_1 = t1 + t0 →
  C53 (v2, v3, v4, v5, v6_1, σ)
def wbm_build_53 (C19 : Int × Int × ZS → Prop) (post : ZS → Prop) (C53 : Int × Int × Int × Int × Int × ZS → Prop) : Int × Int × Int × Int × Int × ZS → Prop := fun (v2, v3, v4, v5, v6, σ) =>
  (InR v5) ∧
  ((¬ v5 = 0 →
    wm_build_93 C19 post v2 v3 v4 v5 v6 σ
  ) ∧
  (v5 = 0 →
    (InR v6) ∧
    ((8 < v6 →
      wm_build_93 C19 post v2 v3 v4 v5 v6 σ
    ) ∧
    (v6 ≤ 8 →
      wm_run v6 v3 v2 σ (fun r6 σ5 => 
      (InR r6) ∧
      ((¬ r6 = 0 →
        wm_build_87 C19 C53 post v2 v3 v4 r6 0 v6 σ5
      ) ∧
      (r6 = 0 →
        wm_build_87 C19 C53 post v2 v3 v4 r6 1 v6 σ5
      )))
    ))
  ))
def wm_build_51 (C19 : Int × Int × ZS → Prop) (post : ZS → Prop) (v2 : Int) (v3 : Int) (v4 : Int) (v5 : Int) (t0 : Int) (σ : ZS) : Prop :=
  ∃ N : Nat, zfix (wbm_build_53 C19 post) N (v2, v3, v4, v5, t0, σ)
def wbm_build_19 (post : ZS → Prop) (C19 : Int × Int × ZS → Prop) : Int × Int × ZS → Prop := fun (v2, v3, σ) =>
  (InR v3) ∧
  (InR (σ 0 11)) ∧
  (((σ 0 11) ≤ v3 →
    post σ
  ) ∧
  (v3 < (σ 0 11) →
    ∀ v4_4 : Int, v4_4 = σ 0 59 →
    wm_oneOfAscii v3 v2 σ (fun r6 σ5 => 
    (InR r6) ∧
    ((r6 ≤ 0 →
      wm_build_51 C19 post v2 v3 v4_4 r6 4 σ5
    ) ∧
    (0 < r6 →
      wm_build_51 C19 post v2 v3 v4_4 r6 0 σ5
    )))
  ))
def wm_build (a0 : Int) (σ : ZS) (post : ZS → Prop) : Prop :=
  ∀ σ1 : ZS, σ1 = zst σ 0 59 0 →
  ∀ σ2 : ZS, σ2 = zst σ1 0 53 0 →
  ∀ σ3 : ZS, σ3 = zst σ2 0 58 0 →
  ∃ N : Nat, zfix (wbm_build_19 post) N (a0, 0, σ3)
/- X13_makeDivisor -/
def wbm_makeDivisor_37 (C30 : Int × Int × ZS → Prop) (post : ZS → Prop) (C37 : Int × Int × Int × ZS → Prop) : Int × Int × Int × ZS → Prop := fun (v1, v2, v3, σ) =>
  (InR v3) ∧
  ((v3 ≤ 0 →
    C30 (v1, v2 + 1, σ)
  ) ∧
  (0 < v3 →
    (0 ≤ v3 ∧ v3 < 70) ∧
    (0 ≤ (v3 - 1) ∧ (v3 - 1) < 70) ∧
    (0 ≤ v2 ∧ v2 < 512) ∧
    wm_product (σ 14 (v3 - 1)) (σ 7 v2) σ (fun r7 σ6 => 
    ∀ σ8 : ZS, σ8 = zst σ6 14 v3 (zxor (σ 14 v3) r7) →
    C37 (v1, v2, v3 + (-1), σ8))
  ))
def wbm_makeDivisor_30 (post : ZS → Prop) (C30 : Int × Int × ZS → Prop) : Int × Int × ZS → Prop := fun (v1, v2, σ) =>
  (InR v2) ∧
  (InR v1) ∧
  ((v1 < v2 →
    post σ
  ) ∧
  (v2 ≤ v1 →
    ∃ N : Nat, zfix (wbm_makeDivisor_37 C30 post) N (v1, v2, v2, σ)
  ))
def wm_makeDivisor_21 (C2 : Int × Int × ZS → Prop) (post : ZS → Prop) (v1 : Int) (v2 : Int) (t0 : Int) (t1 : Int) (σ : ZS) : Prop :=
  (0 ≤ t1 ∧ t1 < 70) ∧
  ∀ σ2 : ZS, σ2 = zst σ 14 t1 t0 →
  C2 (v1, v2 + 1, σ2)
def wbm_makeDivisor_2 (post : ZS → Prop) (C2 : Int × Int × ZS → Prop) : Int × Int × ZS → Prop := fun (v1, v2, σ) =>
  (InR v2) ∧
  (InR v1) ∧
  ((v1 < v2 →
    ∃ N : Nat, zfix (wbm_makeDivisor_30 post) N (v1, 1, σ)
  ) ∧
  (v2 ≤ v1 →
    ((¬ v2 = 0 →
      wm_makeDivisor_21 C2 post v1 v2 0 v2 σ
    ) ∧
    (v2 = 0 →
      wm_makeDivisor_21 C2 post v1 v2 1 v2 σ
    ))
  ))
def wm_makeDivisor (a0 : Int) (σ : ZS) (post : ZS → Prop) : Prop :=
  ∃ N : Nat, zfix (wbm_makeDivisor_2 post) N (a0, 0, σ)
/- X13_check -/
def wbm_check_201 (C23 : Int × Int × Int × Int × ZS → Prop) (post : ZS → Prop) (C201 : Int × Int × Int × Int × Int × Int × ZS → Prop) : Int × Int × Int × Int × Int × Int × ZS → Prop := fun (v2, v3, v4, v5, v7, v8, σ) =>
  (InR v8) ∧
  (InR v3) ∧
  ((v3 ≤ v8 →
    C23 (v2, v3, v4, v5 + 1, σ)
  ) ∧
  (v8 < v3 →
    (0 ≤ v8) ∧
    (InR v4) ∧
    (0 < v4) ∧
    (InR (v8 % v4)) ∧
    (InR v5) ∧
    ((¬ (v8 % v4) = v5 →
      C201 (v2, v3, v4, v5, v7, v8 + 1, σ)
    ) ∧
    ((v8 % v4) = v5 →
      (0 ≤ v7 ∧ v7 < 70) ∧
      (0 ≤ v8 ∧ v8 < 2178) ∧
      ∀ σ12 : ZS, σ12 = zst σ 13 v8 (σ 15 v7) →
      C201 (v2, v3, v4, v5, v7 + 1, v8 + 1, σ12)
    ))
  ))
def wm_check_162 (C23 : Int × Int × Int × Int × ZS → Prop) (C102 : Int × Int × Int × Int × Int × Int × ZS → Prop) (C127 : Int × Int × Int × Int × Int × Int × Int × Int × ZS → Prop) (post : ZS → Prop) (v2 : Int) (v3 : Int) (v4 : Int) (v5 : Int) (v6 : Int) (v7 : Int) (v8 : Int) (v9 : Int) (t0 : Int) (t1 : Int) (σ : ZS) : Prop :=
  (0 ≤ (v9 + 1) ∧ (v9 + 1) < 70) ∧
  wm_product v8 (σ 14 (v9 + 1)) σ (fun r3 σ2 => 
  (0 ≤ t1 ∧ t1 < 70) ∧
  ∀ σ5 : ZS, σ5 = zst σ2 15 t1 (zxor t0 r3) →
  C127 (v2, v3, v4, v5, v6, v7, v8, v9 + 1, σ5))
def wbm_check_127 (C23 : Int × Int × Int × Int × ZS → Prop) (C102 : Int × Int × Int × Int × Int × Int × ZS → Prop) (post : ZS → Prop) (C127 : Int × Int × Int × Int × Int × Int × Int × Int × ZS → Prop) : Int × Int × Int × Int × Int × Int × Int × Int × ZS → Prop := fun (v2, v3, v4, v5, v6, v7, v8, v9, σ) =>
  (InR v9) ∧
  (InR v6) ∧
  ((v6 ≤ v9 →
    ∀ v7_4 : Int, v7_4 = v7 + v4 →
    C102 (v2, v3, v4, v5, v6, v7_4, σ)
  ) ∧
  (v9 < v6 →
    (InR (v9 + 1)) ∧
    ((v6 ≤ (v9 + 1) →
      wm_check_162 C23 C102 C127 post v2 v3 v4 v5 v6 v7 v8 v9 0 v9 σ
    ) ∧
    ((v9 + 1) < v6 →
      (0 ≤ (v9 + 1) ∧ (v9 + 1) < 70) ∧
      wm_check_162 C23 C102 C127 post v2 v3 v4 v5 v6 v7 v8 v9 (σ 15 (v9 + 1)) v9 σ
    ))
  ))
def wbm_check_102 (C23 : Int × Int × Int × Int × ZS → Prop) (post : ZS → Prop) (C102 : Int × Int × Int × Int × Int × Int × ZS → Prop) : Int × Int × Int × Int × Int × Int × ZS → Prop := fun (v2, v3, v4, v5, v6, v7, σ) =>
  (InR v7) ∧
  (InR v2) ∧
  ((v2 ≤ v7 →
    ∃ N : Nat, zfix (wbm_check_201 C23 post) N (v2, v3, v4, v5, 0, v2, σ)
  ) ∧
  (v7 < v2 →
    (0 ≤ v7 ∧ v7 < 2178) ∧
    ∀ v8_5 : Int, v8_5 = zxor (σ 13 v7) (σ 15 0) →
    ∃ N : Nat, zfix (wbm_check_127 C23 C102 post) N (v2, v3, v4, v5, v6, v7, v8_5, 0, σ)
  ))
def wbm_check_77 (C23 : Int × Int × Int × Int × ZS → Prop) (post : ZS → Prop) (C77 : Int × Int × Int × Int × Int × Int × ZS → Prop) : Int × Int × Int × Int × Int × Int × ZS → Prop := fun (v2, v3, v4, v5, v6, v7, σ) =>
  (InR v7) ∧
  (InR v6) ∧
  ((v6 ≤ v7 →
    ∃ N : Nat, zfix (wbm_check_102 C23 post) N (v2, v3, v4, v5, v6, v5, σ)
  ) ∧
  (v7 < v6 →
    (0 ≤ v7 ∧ v7 < 70) ∧
    ∀ σ5 : ZS, σ5 = zst σ 15 v7 0 →
    C77 (v2, v3, v4, v5, v6, v7 + 1, σ5)
  ))
def wm_check_59 (C23 : Int × Int × Int × Int × ZS → Prop) (C36 : Int × Int × Int × Int × Int × Int × ZS → Prop) (post : ZS → Prop) (v2 : Int) (v3 : Int) (v4 : Int) (v5 : Int) (v7 : Int) (t0 : Int) (t1 : Int) (σ : ZS) : Prop :=
  ∀ v6_1 : Int, v6_1 = t1 + t0 →
  C36 (v2, v3, v4, v5, v6_1, v7 + 1, σ)
def wbm_check_36 (C23 : Int × Int × Int × Int × ZS → Prop) (post : ZS → Prop) (C36 : Int × Int × Int × Int × Int × Int × ZS → Prop) : Int × Int × Int × Int × Int × Int × ZS → Prop := fun (v2, v3, v4, v5, v6, v7, σ) =>
  (InR v7) ∧
  (InR v3) ∧
  ((v3 ≤ v7 →
    wm_makeDivisor v6 σ (fun σ4 => 
    ∃ N : Nat, zfix (wbm_check_77 C23 post) N (v2, v3, v4, v5, v6, 0, σ4))
  ) ∧
  (v7 < v3 →
    (0 ≤ v7) ∧
    (InR v4) ∧
    (0 < v4) ∧
    (InR (v7 % v4)) ∧
    (InR v5) ∧
    ((¬ (v7 % v4) = v5 →
      wm_check_59 C23 C36 post v2 v3 v4 v5 v7 0 v6 σ
    ) ∧
    ((v7 % v4) = v5 →
      wm_check_59 C23 C36 post v2 v3 v4 v5 v7 1 v6 σ
    ))
  ))
def wbm_check_23 (post : ZS → Prop) (C23 : Int × Int × Int × Int × ZS → Prop) : Int × Int × Int × Int × ZS → Prop := fun (v2, v3, v4, v5, σ) =>
  (InR v5) ∧
  (InR v4) ∧
  ((v4 ≤ v5 →
    post σ
  ) ∧
  (v5 < v4 →
    ∃ N : Nat, zfix (wbm_check_36 C23 post) N (v2, v3, v4, v5, 0, v2, σ)
  ))
def wm_check (a0 : Int) (σ : ZS) (post : ZS → Prop) : Prop :=
  wm_dataOf a0 σ (fun r2 σ1 => 
  wm_allOf a0 σ1 (fun r4 σ3 => 
  (0 ≤ a0 ∧ a0 < 30) ∧
  ∀ v4_6 : Int, v4_6 = σ3 4 a0 →
  ∃ N : Nat, zfix (wbm_check_23 post) N (r2, r4, v4_6, 0, σ3)))
/- X13_draw -/
def wm_draw_122 (C31 : Int × Int × Int × Int × ZS → Prop) (C45 : Int × Int × Int × Int × Int × ZS → Prop) (post : ZS → Prop) (v1 : Int) (v2 : Int) (v3 : Int) (v4 : Int) (v5 : Int) (t0 : Int) (σ : ZS) : Prop :=
  (0 ≤ ((144 * v4) + v5) ∧ ((144 * v4) + v5) < 20736) ∧
  (t0 = 0 ∨ t0 = 1) ∧
  ∀ σ2 : ZS, σ2 = zst σ 12 ((144 * v4) + v5) t0 →
  C45 (v1, v2, v3, v4, v5 + 1, σ2)
def wm_draw_121 (C31 : Int × Int × Int × Int × ZS → Prop) (C45 : Int × Int × Int × Int × Int × ZS → Prop) (post : ZS → Prop) (v1 : Int) (v2 : Int) (v3 : Int) (v4 : Int) (v5 : Int) (σ : ZS) : Prop :=
  wm_draw_122 C31 C45 post v1 v2 v3 v4 v5 0 σ
def wm_draw_93 (C31 : Int × Int × Int × Int × ZS → Prop) (C45 : Int × Int × Int × Int × Int × ZS → Prop) (post : ZS → Prop) (v1 : Int) (v2 : Int) (v3 : Int) (v4 : Int) (v5 : Int) (v6 : Int) (v7 : Int) (σ : ZS) : Prop :=
  (InR v7) ∧
  (InR (v3 - 1)) ∧
  ((¬ v7 = (v3 - 1) →
    wm_draw_121 C31 C45 post v1 v2 v3 v4 v5 σ
  ) ∧
  (v7 = (v3 - 1) →
    (InR ((v2 - 1) - v6)) ∧
    (0 ≤ ((v2 - 1) - v6)) ∧
    (InR (((v2 - 1) - v6) % 2)) ∧
    ((¬ (((v2 - 1) - v6) % 2) = 0 →
      wm_draw_121 C31 C45 post v1 v2 v3 v4 v5 σ
    ) ∧
    ((((v2 - 1) - v6) % 2) = 0 →
      (InR v6) ∧
      ((v6 ≤ 0 →
        wm_draw_121 C31 C45 post v1 v2 v3 v4 v5 σ
      ) ∧
      (0 < v6 →
        wm_draw_122 C31 C45 post v1 v2 v3 v4 v5 1 σ
      ))
    ))
  ))
def wbm_draw_45 (C31 : Int × Int × Int × Int × ZS → Prop) (post : ZS → Prop) (C45 : Int × Int × Int × Int × Int × ZS → Prop) : Int × Int × Int × Int × Int × ZS → Prop := fun (v1, v2, v3, v4, v5, σ) =>
  (0 ≤ v1 ∧ v1 < 30) ∧
  (InR v5) ∧
  (InR (σ 2 v1)) ∧
  (((σ 2 v1) ≤ v5 →
    C31 (v1, v2, v3, v4 + 1, σ)
  ) ∧
  (v5 < (σ 2 v1) →
    (InR v4) ∧
    (0 ≤ v4) ∧
    (InR v2) ∧
    (0 < v2) ∧
    ∀ v6_9 : Int, v6_9 = v4 % v2 →
    (0 ≤ v5) ∧
    (InR v3) ∧
    (0 < v3) ∧
    ∀ v7_13 : Int, v7_13 = v5 % v3 →
    (InR v7_13) ∧
    ((v7_13 = 0 →
      wm_draw_122 C31 C45 post v1 v2 v3 v4 v5 1 σ
    ) ∧
    (¬ v7_13 = 0 →
      (InR v6_9) ∧
      (InR (v2 - 1)) ∧
      ((v6_9 = (v2 - 1) →
        wm_draw_122 C31 C45 post v1 v2 v3 v4 v5 1 σ
      ) ∧
      (¬ v6_9 = (v2 - 1) →
        ((¬ v6_9 = 0 →
          wm_draw_93 C31 C45 post v1 v2 v3 v4 v5 v6_9 v7_13 σ
        ) ∧
        (v6_9 = 0 →
          (0 ≤ v7_13) ∧
          (InR (v7_13 % 2)) ∧
          (((v7_13 % 2) = 0 →
            wm_draw_122 C31 C45 post v1 v2 v3 v4 v5 1 σ
          ) ∧
          (¬ (v7_13 % 2) = 0 →
            wm_draw_93 C31 C45 post v1 v2 v3 v4 v5 v6_9 v7_13 σ
          ))
        ))
      ))
    ))
  ))
def wbm_draw_31 (post : ZS → Prop) (C31 : Int × Int × Int × Int × ZS → Prop) : Int × Int × Int × Int × ZS → Prop := fun (v1, v2, v3, v4, σ) =>
  (0 ≤ v1 ∧ v1 < 30) ∧
  (InR v4) ∧
  (InR (σ 1 v1)) ∧
  (((σ 1 v1) ≤ v4 →
    wm_isFree ((σ 0 15) - 1) ((σ 0 16) - 1) σ (fun r6 σ5 => r6 = 0 ∨ r6 = 1 →
    ((r6 = 0 →
      post σ5
    ) ∧
    (¬ r6 = 0 →
      wm_moduleAt v1 ((σ5 0 15) - 1) ((σ5 0 16) - 1) σ5 (fun r10 σ9 => 
      (0 ≤ r10 ∧ r10 < 20736) ∧
      ∀ σ12 : ZS, σ12 = zst σ9 12 r10 1 →
      wm_moduleAt v1 ((σ12 0 15) - 2) ((σ12 0 16) - 2) σ12 (fun r14 σ13 => 
      (0 ≤ r14 ∧ r14 < 20736) ∧
      ∀ σ16 : ZS, σ16 = zst σ13 12 r14 1 →
      wm_moduleAt v1 ((σ16 0 15) - 1) ((σ16 0 16) - 2) σ16 (fun r18 σ17 => 
      (0 ≤ r18 ∧ r18 < 20736) ∧
      ∀ σ20 : ZS, σ20 = zst σ17 12 r18 0 →
      wm_moduleAt v1 ((σ20 0 15) - 2) ((σ20 0 16) - 1) σ20 (fun r22 σ21 => 
      (0 ≤ r22 ∧ r22 < 20736) ∧
      ∀ σ24 : ZS, σ24 = zst σ21 12 r22 0 →
      post σ24))))
    )))
  ) ∧
  (v4 < (σ 1 v1) →
    ∃ N : Nat, zfix (wbm_draw_45 C31 post) N (v1, v2, v3, v4, 0, σ)
  ))
def wm_draw (a0 : Int) (σ : ZS) (post : ZS → Prop) : Prop :=
  (0 ≤ a0 ∧ a0 < 30) ∧
  (InR (σ 0 15)) ∧
  (0 ≤ (σ 0 15)) ∧
  (InR (σ 5 a0)) ∧
  (0 < (σ 5 a0)) ∧
  ∀ v2_6 : Int, v2_6 = ((σ 0 15) / (σ 5 a0)) + 2 →
  (InR (σ 0 16)) ∧
  (0 ≤ (σ 0 16)) ∧
  (InR (σ 6 a0)) ∧
  (0 < (σ 6 a0)) ∧
  ∀ v3_11 : Int, v3_11 = ((σ 0 16) / (σ 6 a0)) + 2 →
  ∃ N : Nat, zfix (wbm_draw_31 post) N (a0, v2_6, v3_11, 0, σ)
/- X13_isAllowed -/
def wm_isAllowed_26 (post : Int → ZS → Prop) (v1 : Int) (v2 : Int) (σ : ZS) : Prop :=
  (InR v2) ∧
  (InR (100 + v1)) ∧
  ((¬ v2 = (100 + v1) →
    post 0 σ
  ) ∧
  (v2 = (100 + v1) →
    post 1 σ
  ))
def wm_isAllowed_15 (post : Int → ZS → Prop) (v1 : Int) (v2 : Int) (σ : ZS) : Prop :=
  (InR v2) ∧
  ((¬ v2 = 1 →
    wm_isAllowed_26 post v1 v2 σ
  ) ∧
  (v2 = 1 →
    (InR v1) ∧
    ((23 < v1 →
      post 1 σ
    ) ∧
    (v1 ≤ 23 →
      wm_isAllowed_26 post v1 v2 σ
    ))
  ))
def wm_isAllowed (a0 : Int) (a1 : Int) (σ : ZS) (post : Int → ZS → Prop) : Prop :=
  (InR a1) ∧
  ((a1 = 2 →
    post 1 σ
  ) ∧
  (¬ a1 = 2 →
    ((¬ a1 = 0 →
      wm_isAllowed_15 post a0 a1 σ
    ) ∧
    (a1 = 0 →
      (InR a0) ∧
      ((a0 < 24 →
        post 1 σ
      ) ∧
      (24 ≤ a0 →
        wm_isAllowed_15 post a0 a1 σ
      ))
    ))
  ))
/- X13_least -/
def wm_least (a0 : Int) (a1 : Int) (σ : ZS) (post : Int → ZS → Prop) : Prop :=
  (InR a0) ∧
  (InR a1) ∧
  ((a1 ≤ a0 →
    post a1 σ
  ) ∧
  (a0 < a1 →
    post a0 σ
  ))
/- X13_lengthIn -/
def wbm_lengthIn_25 (post : Int → ZS → Prop) (C25 : Int × Int × ZS → Prop) : Int × Int × ZS → Prop := fun (v1, v2, σ) =>
  (InR v2) ∧
  ((v2 < 0 →
    post (-1) σ
  ) ∧
  (0 ≤ v2 →
    (InR (v1 - (σ 23 9603))) ∧
    (((v1 - (σ 23 9603)) ≤ (-2) →
      post (-1) σ
    ) ∧
    ((-2) < (v1 - (σ 23 9603)) →
      (InR v1) ∧
      ((v1 < v2 →
        C25 (v1, v2 + (-1), σ)
      ) ∧
      (v2 ≤ v1 →
        wm_has v2 0 (v1 - v2) σ (fun r8 σ7 => r8 = 0 ∨ r8 = 1 →
        ((r8 = 0 →
          C25 (v1, v2 + (-1), σ7)
        ) ∧
        (¬ r8 = 0 →
          post (v1 - v2) σ7
        )))
      ))
    ))
  ))
def wm_lengthIn (a0 : Int) (σ : ZS) (post : Int → ZS → Prop) : Prop :=
  (InR (σ 23 9603)) ∧
  (InR (a0 - 3)) ∧
  (((a0 - 3) < (σ 23 9603) →
    ∃ N : Nat, zfix (wbm_lengthIn_25 post) N (a0, 2, σ)
  ) ∧
  ((σ 23 9603) ≤ (a0 - 3) →
    post (σ 23 9603) σ
  ))
/- X13_none -/
def wm_none (σ : ZS) (post : ZS → Prop) : Prop :=
  ∀ σ1 : ZS, σ1 = zst σ 0 45 1000000 →
  ∀ σ2 : ZS, σ2 = zst σ1 0 46 0 →
  post σ2
/- X13_offer -/
def wm_offer_103 (post : ZS → Prop) (t0 : Int) (t1 : Int) (σ : ZS) : Prop :=
  ∀ σ1 : ZS, σ1 = zst σ 0 46 (zor t1 t0) →
  post σ1
def wm_offer_62 (post : ZS → Prop) (v1 : Int) (t0 : Int) (t1 : Int) (σ : ZS) : Prop :=
  ∀ σ1 : ZS, σ1 = zst σ 0 46 (zor t1 t0) →
  ∀ σ2 : ZS, σ2 = zst σ1 0 45 v1 →
  post σ2
def wm_offer (a0 : Int) (a1 : Int) (σ : ZS) (post : ZS → Prop) : Prop :=
  (InR a1) ∧
  ((¬ a1 = 0 →
    (InR (σ 0 46)) ∧
    ((¬ (σ 0 46) = 0 →
      (InR a0) ∧
      (InR (σ 0 45)) ∧
      (((σ 0 45) ≤ a0 →
        ∀ v3_8 : Int, v3_8 = a0 - (σ 0 45) →
        (InR v3_8) ∧
        ((31 ≤ v3_8 →
          wm_offer_103 post 0 (σ 0 46) σ
        ) ∧
        (v3_8 < 31 →
          wm_offer_103 post (zand (zshl a1 v3_8) 2147483647) (σ 0 46) σ
        ))
      ) ∧
      (a0 < (σ 0 45) →
        ∀ v3_11 : Int, v3_11 = (σ 0 45) - a0 →
        (InR v3_11) ∧
        ((31 ≤ v3_11 →
          wm_offer_62 post a0 0 a1 σ
        ) ∧
        (v3_11 < 31 →
          wm_offer_62 post a0 (zand (zshl (σ 0 46) v3_11) 2147483647) a1 σ
        ))
      ))
    ) ∧
    ((σ 0 46) = 0 →
      ∀ σ14 : ZS, σ14 = zst σ 0 45 a0 →
      ∀ σ15 : ZS, σ15 = zst σ14 0 46 a1 →
      post σ15
    ))
  ) ∧
  (a1 = 0 →
    post σ
  ))
/- X13_offerFrom -/
def wm_offerFrom_64 (post : ZS → Prop) (v2 : Int) (v4 : Int) (v5 : Int) (σ : ZS) : Prop :=
  wm_offer (v4 + v2) v5 σ (fun σ1 => 
  post σ1)
def wm_offerFrom_52 (C34 : Int × Int × Int × Int × ZS → Prop) (post : ZS → Prop) (v2 : Int) (v3 : Int) (v4 : Int) (v5 : Int) (σ : ZS) : Prop :=
  (InR v5) ∧
  ∀ v5_2 : Int, v5_2 = v5 / 2 →
  C34 (v2, v3, v4 + 1, v5_2, σ)
def wbm_offerFrom_34 (post : ZS → Prop) (C34 : Int × Int × Int × Int × ZS → Prop) : Int × Int × Int × Int × ZS → Prop := fun (v2, v3, v4, v5, σ) =>
  (InR v5) ∧
  ((v5 = 0 →
    wm_offerFrom_64 post v2 v4 v5 σ
  ) ∧
  (¬ v5 = 0 →
    (InR v4) ∧
    (InR v3) ∧
    ((v4 < v3 →
      wm_offerFrom_52 C34 post v2 v3 v4 v5 σ
    ) ∧
    (v3 ≤ v4 →
      (InR (v5 % 2)) ∧
      ((¬ (v5 % 2) = 0 →
        wm_offerFrom_64 post v2 v4 v5 σ
      ) ∧
      ((v5 % 2) = 0 →
        wm_offerFrom_52 C34 post v2 v3 v4 v5 σ
      ))
    ))
  ))
def wm_offerFrom (a0 : Int) (a1 : Int) (a2 : Int) (σ : ZS) (post : ZS → Prop) : Prop :=
  (0 ≤ ((3201 * (σ 0 49)) + a0) ∧ ((3201 * (σ 0 49)) + a0) < 22407) ∧
  ∀ v4_2 : Int, v4_2 = σ 23 ((3201 * (σ 0 49)) + a0) →
  ∀ v5_3 : Int, v5_3 = σ 24 ((3201 * (σ 0 49)) + a0) →
  ∃ N : Nat, zfix (wbm_offerFrom_34 post) N (a1, a2, v4_2, v5_3, σ)
/- X13_workAscii -/
def wm_workAscii_282 (post : ZS → Prop) (v1 : Int) (σ : ZS) : Prop :=
  (0 ≤ ((3201 * (σ 0 49)) + v1) ∧ ((3201 * (σ 0 49)) + v1) < 22407) ∧
  ∀ σ2 : ZS, σ2 = zst σ 23 ((3201 * (σ 0 49)) + v1) (σ 0 45) →
  (0 ≤ ((3201 * (σ2 0 49)) + v1) ∧ ((3201 * (σ2 0 49)) + v1) < 22407) ∧
  ∀ σ4 : ZS, σ4 = zst σ2 24 ((3201 * (σ2 0 49)) + v1) (σ2 0 46) →
  post σ4
def wm_workAscii_255 (post : ZS → Prop) (v1 : Int) (σ : ZS) : Prop :=
  (InR (σ 0 47)) ∧
  ((¬ (σ 0 47) = 0 →
    wm_workAscii_282 post v1 σ
  ) ∧
  ((σ 0 47) = 0 →
    (InR (σ 0 48)) ∧
    ((¬ (σ 0 48) = 0 →
      wm_workAscii_282 post v1 σ
    ) ∧
    ((σ 0 48) = 0 →
      wm_offer ((2 + (σ 0 11)) - v1) 1 σ (fun σ5 => 
      wm_workAscii_282 post v1 σ5)
    ))
  ))
def wm_workAscii_209 (C179 : Int × Int × ZS → Prop) (post : ZS → Prop) (v1 : Int) (v2 : Int) (t0 : Int) (t1 : Int) (σ : ZS) : Prop :=
  ∀ v3_1 : Int, v3_1 = t1 + t0 →
  (0 ≤ (((3201 * (σ 0 49)) + v1) + v2) ∧ (((3201 * (σ 0 49)) + v1) + v2) < 22407) ∧
  (InR (v3_1 + (σ 23 (((3201 * (σ 0 49)) + v1) + v2)))) ∧
  (InR ((σ 0 45) + 31)) ∧
  ((((σ 0 45) + 31) ≤ (v3_1 + (σ 23 (((3201 * (σ 0 49)) + v1) + v2))) →
    C179 (v1, v2 + 1, σ)
  ) ∧
  ((v3_1 + (σ 23 (((3201 * (σ 0 49)) + v1) + v2))) < ((σ 0 45) + 31) →
    wm_offerFrom (v1 + v2) v3_1 0 σ (fun σ6 => 
    C179 (v1, v2 + 1, σ6))
  ))
def wbm_workAscii_179 (post : ZS → Prop) (C179 : Int × Int × ZS → Prop) : Int × Int × ZS → Prop := fun (v1, v2, σ) =>
  (InR v2) ∧
  (InR ((σ 0 11) - v1)) ∧
  ((((σ 0 11) - v1) < v2 →
    wm_workAscii_255 post v1 σ
  ) ∧
  (v2 ≤ ((σ 0 11) - v1) →
    ((1755 < v2 →
      wm_workAscii_255 post v1 σ
    ) ∧
    (v2 ≤ 1755 →
      ((250 ≤ v2 →
        wm_workAscii_209 C179 post v1 v2 3 v2 σ
      ) ∧
      (v2 < 250 →
        wm_workAscii_209 C179 post v1 v2 2 v2 σ
      ))
    ))
  ))
def wm_workAscii_177 (post : ZS → Prop) (v1 : Int) (σ : ZS) : Prop :=
  ∃ N : Nat, zfix (wbm_workAscii_179 post) N (v1, 1, σ)
def wm_workAscii_136 (C65 : Int × Int × ZS → Prop) (post : ZS → Prop) (v1 : Int) (v2 : Int) (t0 : Int) (t1 : Int) (σ : ZS) : Prop :=
  wm_offer t1 t0 σ (fun σ1 => 
  C65 (v1, v2 + 1, σ1))
def wm_workAscii_121 (C65 : Int × Int × ZS → Prop) (post : ZS → Prop) (v1 : Int) (v2 : Int) (v3 : Int) (v4 : Int) (t0 : Int) (σ : ZS) : Prop :=
  (InR v3) ∧
  ((¬ v3 = 0 →
    (0 ≤ v4 ∧ v4 < 26) ∧
    wm_workAscii_136 C65 post v1 v2 (σ 26 v4) t0 σ
  ) ∧
  (v3 = 0 →
    wm_workAscii_136 C65 post v1 v2 0 t0 σ
  ))
def wbm_workAscii_65 (post : ZS → Prop) (C65 : Int × Int × ZS → Prop) : Int × Int × ZS → Prop := fun (v1, v2, σ) =>
  (InR v2) ∧
  ((6 < v2 →
    (0 ≤ v1 ∧ v1 < 3200) ∧
    wm_isSix (σ 9 v1) σ (fun r5 σ4 => r5 = 0 ∨ r5 = 1 →
    ((r5 = 0 →
      wm_workAscii_177 post v1 σ4
    ) ∧
    (¬ r5 = 0 →
      wm_offer (1 + (σ4 25 23)) (σ4 26 23) σ4 (fun σ8 => 
      wm_workAscii_177 post v1 σ8)
    )))
  ) ∧
  (v2 ≤ 6 →
    (0 ≤ v1 ∧ v1 < 3200) ∧
    wm_spell v2 (σ 9 v1) σ (fun r11 σ10 => 
    (InR r11) ∧
    (0 ≤ r11) ∧
    ∀ v4_14 : Int, v4_14 = (13 + (3 * (v2 - 4))) + (r11 % 3) →
    ((¬ r11 = 0 →
      (0 ≤ v4_14 ∧ v4_14 < 26) ∧
      wm_workAscii_121 C65 post v1 v2 r11 v4_14 ((1 + (2 * (r11 / 3))) + (σ10 25 v4_14)) σ10
    ) ∧
    (r11 = 0 →
      wm_workAscii_121 C65 post v1 v2 r11 v4_14 0 σ10
    )))
  ))
def wm_workAscii_59 (post : ZS → Prop) (v1 : Int) (t0 : Int) (t1 : Int) (σ : ZS) : Prop :=
  wm_offerFrom t1 t0 0 σ (fun σ1 => 
  ∃ N : Nat, zfix (wbm_workAscii_65 post) N (v1, 4, σ1))
def wm_workAscii_38 (post : ZS → Prop) (v1 : Int) (σ : ZS) : Prop :=
  (0 ≤ v1 ∧ v1 < 3200) ∧
  (InR (σ 9 v1)) ∧
  ((128 ≤ (σ 9 v1) →
    wm_workAscii_59 post v1 2 (v1 + 1) σ
  ) ∧
  ((σ 9 v1) < 128 →
    wm_workAscii_59 post v1 1 (v1 + 1) σ
  ))
def wm_workAscii (a0 : Int) (σ : ZS) (post : ZS → Prop) : Prop :=
  wm_none σ (fun σ1 => 
  (InR a0) ∧
  (InR (σ1 0 11)) ∧
  ((¬ a0 = (σ1 0 11) →
    wm_isDigits a0 σ1 (fun r6 σ5 => r6 = 0 ∨ r6 = 1 →
    ((r6 = 0 →
      wm_workAscii_38 post a0 σ5
    ) ∧
    (¬ r6 = 0 →
      wm_offerFrom (a0 + 2) 1 0 σ5 (fun σ9 => 
      wm_workAscii_38 post a0 σ9)
    )))
  ) ∧
  (a0 = (σ1 0 11) →
    wm_offer 0 1 σ1 (fun σ10 => 
    wm_workAscii_282 post a0 σ10)
  )))
/- X13_offerOpen -/
def wbm_offerOpen_3 (post : ZS → Prop) (C3 : Int × Int × Int × Int × ZS → Prop) : Int × Int × Int × Int × ZS → Prop := fun (v1, v2, v3, v4, σ) =>
  (InR v4) ∧
  (InR (v3 - (σ 0 47))) ∧
  (((v3 - (σ 0 47)) < v4 →
    post σ
  ) ∧
  (v4 ≤ (v3 - (σ 0 47)) →
    (InR (σ 0 48)) ∧
    ((¬ (σ 0 48) = 0 →
      post σ
    ) ∧
    ((σ 0 48) = 0 →
      wm_isTail v1 v4 σ (fun r7 σ6 => r7 = 0 ∨ r7 = 1 →
      ((r7 = 0 →
        C3 (v1, v2, v3, v4 + 1, σ6)
      ) ∧
      (¬ r7 = 0 →
        wm_offer (v4 + v2) 1 σ6 (fun σ10 => 
        C3 (v1, v2, v3, v4 + 1, σ10))
      )))
    ))
  ))
def wm_offerOpen (a0 : Int) (a1 : Int) (a2 : Int) (σ : ZS) (post : ZS → Prop) : Prop :=
  ∃ N : Nat, zfix (wbm_offerOpen_3 post) N (a0, a1, a2, 0, σ)
/- X13_endSixes -/
def wm_endSixes (a0 : Int) (a1 : Int) (σ : ZS) (post : ZS → Prop) : Prop :=
  wm_lastWords a1 σ (fun r2 σ1 => 
  wm_lastWords a1 σ1 (fun r4 σ3 => 
  wm_offerFrom a0 r2 ((3 - r4) - (σ3 0 47)) σ3 (fun σ5 => 
  (InR a1) ∧
  ((¬ a1 = 0 →
    post σ5
  ) ∧
  (a1 = 0 →
    wm_offerOpen a0 0 2 σ5 (fun σ8 => 
    post σ8)
  )))))
/- X13_endThrees -/
def wm_endThrees (a0 : Int) (a1 : Int) (σ : ZS) (post : ZS → Prop) : Prop :=
  wm_offerFrom a0 (a1 + 1) (1 - (σ 0 47)) σ (fun σ1 => 
  wm_offerOpen a0 a1 1 σ1 (fun σ2 => 
  post σ2))
/- X13_workRuns -/
def wbm_workRuns_278 (post : ZS → Prop) (C278 : Int × ZS → Prop) : Int × ZS → Prop := fun (v2, σ) =>
  (InR v2) ∧
  ((13 ≤ v2 →
    post σ
  ) ∧
  (v2 < 13 →
    (0 ≤ v2 ∧ v2 < 26) ∧
    (0 ≤ (13 + v2) ∧ (13 + v2) < 26) ∧
    ∀ σ5 : ZS, σ5 = zst σ 25 (13 + v2) (σ 25 v2) →
    ∀ σ6 : ZS, σ6 = zst σ5 26 (13 + v2) (σ5 26 v2) →
    C278 (v2 + 1, σ6)
  ))
def wm_workRuns_238 (C173 : Int × Int × ZS → Prop) (post : ZS → Prop) (v1 : Int) (v2 : Int) (σ : ZS) : Prop :=
  wm_endSixes v1 v2 σ (fun σ1 => 
  (0 ≤ (9 + v2) ∧ (9 + v2) < 26) ∧
  ∀ σ3 : ZS, σ3 = zst σ1 25 (9 + v2) (σ1 0 45) →
  ∀ σ4 : ZS, σ4 = zst σ3 26 (9 + v2) (σ3 0 46) →
  C173 (v1, v2 + 1, σ4))
def wm_workRuns_222 (C173 : Int × Int × ZS → Prop) (post : ZS → Prop) (v1 : Int) (v2 : Int) (v3 : Int) (t0 : Int) (σ : ZS) : Prop :=
  (0 ≤ v3 ∧ v3 < 26) ∧
  wm_offer (t0 + (σ 25 v3)) (σ 26 v3) σ (fun σ2 => 
  wm_workRuns_238 C173 post v1 v2 σ2)
def wbm_workRuns_173 (post : ZS → Prop) (C173 : Int × Int × ZS → Prop) : Int × Int × ZS → Prop := fun (v1, v2, σ) =>
  (InR v2) ∧
  ((4 ≤ v2 →
    ∃ N : Nat, zfix (wbm_workRuns_278 post) N (0, σ)
  ) ∧
  (v2 < 4 →
    wm_none σ (fun σ3 => 
    (InR v1) ∧
    (InR (σ3 0 11)) ∧
    (((σ3 0 11) ≤ v1 →
      wm_workRuns_238 C173 post v1 v2 σ3
    ) ∧
    (v1 < (σ3 0 11) →
      (0 ≤ v1 ∧ v1 < 3200) ∧
      wm_isSix (σ3 9 v1) σ3 (fun r9 σ8 => r9 = 0 ∨ r9 = 1 →
      ((r9 = 0 →
        wm_workRuns_238 C173 post v1 v2 σ8
      ) ∧
      (¬ r9 = 0 →
        (InR (v2 + 1)) ∧
        (0 ≤ (v2 + 1)) ∧
        ∀ v3_14 : Int, v3_14 = 22 + ((v2 + 1) % 4) →
        ((¬ v2 = 3 →
          wm_workRuns_222 C173 post v1 v2 v3_14 0 σ8
        ) ∧
        (v2 = 3 →
          wm_workRuns_222 C173 post v1 v2 v3_14 3 σ8
        ))
      )))
    )))
  ))
def wm_workRuns_125 (C2 : Int × Int × ZS → Prop) (C35 : Int × Int × Int × Int × ZS → Prop) (post : ZS → Prop) (v1 : Int) (v2 : Int) (v3 : Int) (v4 : Int) (σ : ZS) : Prop :=
  (0 ≤ ((3 * (v2 - 4)) + v4) ∧ ((3 * (v2 - 4)) + v4) < 26) ∧
  ∀ σ2 : ZS, σ2 = zst σ 25 ((3 * (v2 - 4)) + v4) (σ 0 45) →
  ∀ σ3 : ZS, σ3 = zst σ2 26 ((3 * (v2 - 4)) + v4) (σ2 0 46) →
  C35 (v1, v2, v3, v4 + 1, σ3)
def wm_workRuns_93 (C2 : Int × Int × ZS → Prop) (C35 : Int × Int × Int × Int × ZS → Prop) (post : ZS → Prop) (v1 : Int) (v2 : Int) (v3 : Int) (v4 : Int) (σ : ZS) : Prop :=
  (InR v4) ∧
  ((¬ v4 = 0 →
    ((¬ v4 = 2 →
      wm_workRuns_125 C2 C35 post v1 v2 v3 v4 σ
    ) ∧
    (v4 = 2 →
      (InR v2) ∧
      ((v2 = 6 →
        wm_workRuns_125 C2 C35 post v1 v2 v3 v4 σ
      ) ∧
      (¬ v2 = 6 →
        wm_endThrees v1 2 σ (fun σ6 => 
        wm_workRuns_125 C2 C35 post v1 v2 v3 v4 σ6)
      ))
    ))
  ) ∧
  (v4 = 0 →
    wm_endThrees v1 0 σ (fun σ7 => 
    wm_workRuns_125 C2 C35 post v1 v2 v3 v4 σ7)
  ))
def wbm_workRuns_35 (C2 : Int × Int × ZS → Prop) (post : ZS → Prop) (C35 : Int × Int × Int × Int × ZS → Prop) : Int × Int × Int × Int × ZS → Prop := fun (v1, v2, v3, v4, σ) =>
  (InR v4) ∧
  ((3 ≤ v4 →
    C2 (v1, v2 + 1, σ)
  ) ∧
  (v4 < 3 →
    wm_none σ (fun σ3 => 
    (InR v3) ∧
    ((v3 ≤ 0 →
      wm_workRuns_93 C2 C35 post v1 v2 v3 v4 σ3
    ) ∧
    (0 < v3 →
      (InR (v4 + v3)) ∧
      (0 ≤ (v4 + v3)) ∧
      ∀ v5_8 : Int, v5_8 = (13 + (3 * (v2 - 4))) + ((v4 + v3) % 3) →
      (0 ≤ v5_8 ∧ v5_8 < 26) ∧
      wm_offer ((2 * ((v4 + v3) / 3)) + (σ3 25 v5_8)) (σ3 26 v5_8) σ3 (fun σ10 => 
      wm_workRuns_93 C2 C35 post v1 v2 v3 v4 σ10)
    )))
  ))
def wm_workRuns_31 (C2 : Int × Int × ZS → Prop) (post : ZS → Prop) (v1 : Int) (v2 : Int) (t0 : Int) (σ : ZS) : Prop :=
  ∃ N : Nat, zfix (wbm_workRuns_35 C2 post) N (v1, v2, t0, 0, σ)
def wbm_workRuns_2 (post : ZS → Prop) (C2 : Int × Int × ZS → Prop) : Int × Int × ZS → Prop := fun (v1, v2, σ) =>
  (InR v2) ∧
  ((6 < v2 →
    ∃ N : Nat, zfix (wbm_workRuns_173 post) N (v1, 0, σ)
  ) ∧
  (v2 ≤ 6 →
    (InR v1) ∧
    (InR (σ 0 11)) ∧
    (((σ 0 11) ≤ v1 →
      wm_workRuns_31 C2 post v1 v2 0 σ
    ) ∧
    (v1 < (σ 0 11) →
      (0 ≤ v1 ∧ v1 < 3200) ∧
      wm_spell v2 (σ 9 v1) σ (fun r8 σ7 => 
      wm_workRuns_31 C2 post v1 v2 r8 σ7)
    ))
  ))
def wm_workRuns (a0 : Int) (σ : ZS) (post : ZS → Prop) : Prop :=
  ∃ N : Nat, zfix (wbm_workRuns_2 post) N (a0, 4, σ)
/- X13_work -/
def wbm_work_82 (post : ZS → Prop) (C82 : Int × ZS → Prop) : Int × ZS → Prop := fun (v2, σ) =>
  (InR v2) ∧
  ((v2 < 0 →
    post σ
  ) ∧
  (0 ≤ v2 →
    wm_workAscii v2 σ (fun σ3 => 
    wm_workRuns v2 σ3 (fun σ4 => 
    C82 (v2 + (-1), σ4)))
  ))
def wbm_work_49 (post : ZS → Prop) (C49 : Int × ZS → Prop) : Int × ZS → Prop := fun (v2, σ) =>
  (InR v2) ∧
  ((26 ≤ v2 →
    ∀ v2_3 : Int, v2_3 = σ 0 11 →
    ∃ N : Nat, zfix (wbm_work_82 post) N (v2_3, σ)
  ) ∧
  (v2 < 26 →
    (0 ≤ v2 ∧ v2 < 26) ∧
    ∀ σ5 : ZS, σ5 = zst σ 25 v2 1000000 →
    ∀ σ6 : ZS, σ6 = zst σ5 26 v2 0 →
    C49 (v2 + 1, σ6)
  ))
def wm_work_44 (post : ZS → Prop) (t0 : Int) (σ : ZS) : Prop :=
  (t0 = 0 ∨ t0 = 1) ∧
  ∀ σ1 : ZS, σ1 = zst σ 0 48 t0 →
  ∃ N : Nat, zfix (wbm_work_49 post) N (0, σ1)
def wm_work_27 (post : ZS → Prop) (t0 : Int) (σ : ZS) : Prop :=
  ∀ σ1 : ZS, σ1 = zst σ 0 47 t0 →
  (InR (σ1 0 49)) ∧
  (((σ1 0 49) ≤ 2 →
    wm_work_44 post 0 σ1
  ) ∧
  (2 < (σ1 0 49) →
    wm_work_44 post 1 σ1
  ))
def wm_work (a0 : Int) (σ : ZS) (post : ZS → Prop) : Prop :=
  ∀ σ1 : ZS, σ1 = zst σ 0 49 a0 →
  (InR (σ1 0 49)) ∧
  ((4 ≤ (σ1 0 49) →
    wm_work_27 post ((σ1 0 49) - 4) σ1
  ) ∧
  ((σ1 0 49) < 4 →
    wm_work_27 post (σ1 0 49) σ1
  ))
/- X13_encode -/
def wbm_encode_374 (post : Int → ZS → Prop) (C374 : Int × Int × ZS → Prop) : Int × Int × ZS → Prop := fun (v3, v6, σ) =>
  wm_allOf v3 σ (fun r2 σ1 => 
  (InR v6) ∧
  (InR r2) ∧
  ((r2 ≤ v6 →
    post v3 σ1
  ) ∧
  (v6 < r2 →
    (0 ≤ v6 ∧ v6 < 2178) ∧
    wm_write v6 (σ1 13 v6) σ1 (fun σ7 => 
    C374 (v3, v6 + 1, σ7))
  )))
def wbm_encode_326 (post : Int → ZS → Prop) (C326 : Int × Int × ZS → Prop) : Int × Int × ZS → Prop := fun (v3, v4, σ) =>
  (InR (σ 0 59)) ∧
  (InR v4) ∧
  ((v4 ≤ (σ 0 59) →
    ∀ σ4 : ZS, σ4 = zst σ 0 18 v3 →
    wm_check v3 σ4 (fun σ5 => 
    wm_map v3 σ5 (fun σ6 => 
    wm_draw v3 σ6 (fun σ7 => 
    ∃ N : Nat, zfix (wbm_encode_374 post) N (v3, 0, σ7))))
  ) ∧
  ((σ 0 59) < v4 →
    wm_pad ((σ 0 59) + 1) σ (fun r9 σ8 => 
    wm_put r9 σ8 (fun σ10 => 
    C326 (v3, v4, σ10)))
  ))
def wm_encode_299 (post : Int → ZS → Prop) (v3 : Int) (v4 : Int) (t0 : Int) (σ : ZS) : Prop :=
  ∀ σ1 : ZS, σ1 = zst σ 0 49 t0 →
  wm_build (σ1 0 51) σ1 (fun σ2 => 
  (InR (σ2 0 59)) ∧
  (InR v4) ∧
  ((v4 ≤ (σ2 0 59) →
    ∃ N : Nat, zfix (wbm_encode_326 post) N (v3, v4, σ2)
  ) ∧
  ((σ2 0 59) < v4 →
    wm_put 129 σ2 (fun σ6 => 
    ∃ N : Nat, zfix (wbm_encode_326 post) N (v3, v4, σ6))
  )))
def wm_encode_279 (post : Int → ZS → Prop) (v3 : Int) (v4 : Int) (v5 : Int) (t0 : Int) (σ : ZS) : Prop :=
  ∀ σ1 : ZS, σ1 = zst σ 0 52 t0 →
  (InR (σ1 0 48)) ∧
  (((σ1 0 48) = 0 →
    wm_encode_299 post v3 v4 (σ1 0 47) σ1
  ) ∧
  (¬ (σ1 0 48) = 0 →
    wm_encode_299 post v3 v4 v5 σ1
  ))
def wm_encode_249 (post : Int → ZS → Prop) (v3 : Int) (v4 : Int) (t0 : Int) (σ : ZS) : Prop :=
  wm_has t0 0 (σ 0 51) σ (fun r2 σ1 => r2 = 0 ∨ r2 = 1 →
  ∀ σ4 : ZS, σ4 = zst σ1 0 48 r2 →
  (InR (σ4 0 48)) ∧
  (((σ4 0 48) = 0 →
    wm_encode_279 post v3 v4 t0 0 σ4
  ) ∧
  (¬ (σ4 0 48) = 0 →
    wm_encode_279 post v3 v4 t0 1 σ4
  )))
def wm_encode_171 (C136 : Int × Int × Int × ZS → Prop) (post : Int → ZS → Prop) (v1 : Int) (v3 : Int) (v4 : Int) (σ : ZS) : Prop :=
  wm_dataOf v4 σ (fun r2 σ1 => 
  wm_lengthIn r2 σ1 (fun r4 σ3 => 
  (InR r4) ∧
  ((r4 < 0 →
    C136 (v1, v3, v4 + 1, σ3)
  ) ∧
  (0 ≤ r4 →
    C136 (v1, v4, v4 + 1, σ3)
  ))))
def wbm_encode_136 (post : Int → ZS → Prop) (C136 : Int × Int × Int × ZS → Prop) : Int × Int × Int × ZS → Prop := fun (v1, v3, v4, σ) =>
  (InR v4) ∧
  ((30 ≤ v4 →
    (InR v3) ∧
    ((0 ≤ v3 →
      wm_dataOf v3 σ (fun r6 σ5 => 
      wm_lengthIn r6 σ5 (fun r8 σ7 => 
      ∀ σ9 : ZS, σ9 = zst σ7 0 51 r8 →
      wm_least 3 (r6 - (σ9 0 51)) σ9 (fun r11 σ10 => 
      ∀ σ12 : ZS, σ12 = zst σ10 0 47 r11 →
      (InR (σ12 0 47)) ∧
      ((¬ (σ12 0 47) = 3 →
        wm_encode_249 post v3 r6 (4 + (σ12 0 47)) σ12
      ) ∧
      ((σ12 0 47) = 3 →
        wm_encode_249 post v3 r6 3 σ12
      )))))
    ) ∧
    (v3 < 0 →
      post (-1) σ
    ))
  ) ∧
  (v4 < 30 →
    wm_isAllowed v4 v1 σ (fun r16 σ15 => r16 = 0 ∨ r16 = 1 →
    ((r16 = 0 →
      C136 (v1, v3, v4 + 1, σ15)
    ) ∧
    (¬ r16 = 0 →
      (InR v3) ∧
      ((v3 < 0 →
        wm_encode_171 C136 post v1 v3 v4 σ15
      ) ∧
      (0 ≤ v3 →
        wm_dataOf v4 σ15 (fun r22 σ21 => 
        wm_dataOf v3 σ21 (fun r24 σ23 => 
        (InR r22) ∧
        (InR r24) ∧
        ((r24 ≤ r22 →
          C136 (v1, v3, v4 + 1, σ23)
        ) ∧
        (r22 < r24 →
          wm_encode_171 C136 post v1 v3 v4 σ23
        ))))
      ))
    )))
  ))
def wm_encode_131 (post : Int → ZS → Prop) (v1 : Int) (σ : ZS) : Prop :=
  ∃ N : Nat, zfix (wbm_encode_136 post) N (v1, (-1), 0, σ)
def wbm_encode_105 (post : Int → ZS → Prop) (C105 : Int × Int × Int × ZS → Prop) : Int × Int × Int × ZS → Prop := fun (v1, v2, v3, σ) =>
  (InR v3) ∧
  ((7 ≤ v3 →
    wm_encode_131 post v1 σ
  ) ∧
  (v3 < 7 →
    (InR v2) ∧
    ((v2 = 0 →
      wm_encode_131 post v1 σ
    ) ∧
    (¬ v2 = 0 →
      ((v3 = 3 →
        C105 (v1, v2, v3 + 1, σ)
      ) ∧
      (¬ v3 = 3 →
        wm_work v3 σ (fun σ6 => 
        C105 (v1, v2, v3 + 1, σ6))
      ))
    ))
  ))
def wm_encode_96 (C43 : Int × Int × Int × ZS → Prop) (post : Int → ZS → Prop) (v1 : Int) (v3 : Int) (t0 : Int) (σ : ZS) : Prop :=
  C43 (v1, t0, v3 + 1, σ)
def wm_encode_95 (C43 : Int × Int × Int × ZS → Prop) (post : Int → ZS → Prop) (v1 : Int) (v3 : Int) (σ : ZS) : Prop :=
  wm_encode_96 C43 post v1 v3 0 σ
def wbm_encode_43 (post : Int → ZS → Prop) (C43 : Int × Int × Int × ZS → Prop) : Int × Int × Int × ZS → Prop := fun (v1, v2, v3, σ) =>
  (InR v3) ∧
  ((30 ≤ v3 →
    ∃ N : Nat, zfix (wbm_encode_105 post) N (v1, v2, 0, σ)
  ) ∧
  (v3 < 30 →
    wm_dataOf v3 σ (fun r4 σ3 => 
    ∀ v4_5 : Int, v4_5 = r4 - (σ3 23 9603) →
    (InR v2) ∧
    ((¬ v2 = 0 →
      wm_encode_96 C43 post v1 v3 1 σ3
    ) ∧
    (v2 = 0 →
      wm_isAllowed v3 v1 σ3 (fun r9 σ8 => r9 = 0 ∨ r9 = 1 →
      ((r9 = 0 →
        wm_encode_95 C43 post v1 v3 σ8
      ) ∧
      (¬ r9 = 0 →
        (InR v4_5) ∧
        ((v4_5 ≤ (-2) →
          wm_encode_95 C43 post v1 v3 σ8
        ) ∧
        ((-2) < v4_5 →
          ((3 ≤ v4_5 →
            wm_encode_95 C43 post v1 v3 σ8
          ) ∧
          (v4_5 < 3 →
            wm_encode_96 C43 post v1 v3 1 σ8
          ))
        ))
      )))
    )))
  ))
def wm_encode_24 (post : Int → ZS → Prop) (v1 : Int) (σ : ZS) : Prop :=
  (InR v1) ∧
  ((v1 ≤ 129 →
    wm_work 3 σ (fun σ3 => 
    ∃ N : Nat, zfix (wbm_encode_43 post) N (v1, 0, 0, σ3))
  ) ∧
  (129 < v1 →
    post (-2) σ
  ))
def wm_encode (a0 : Int) (σ : ZS) (post : Int → ZS → Prop) : Prop :=
  ∀ σ1 : ZS, σ1 = zst σ 0 0 0 →
  wm_takeTape σ1 (fun σ2 => 
  (InR a0) ∧
  ((a0 < 0 →
    post (-2) σ2
  ) ∧
  (0 ≤ a0 →
    ((a0 ≤ 2 →
      wm_encode_24 post a0 σ2
    ) ∧
    (2 < a0 →
      ((a0 < 100 →
        post (-2) σ2
      ) ∧
      (100 ≤ a0 →
        wm_encode_24 post a0 σ2
      ))
    ))
  )))
/- X13_step -/
def wm_step_27 (post : Int → ZS → Prop) (v1 : Int) (v2 : Int) (t0 : Int) (σ : ZS) : Prop :=
  ∀ σ1 : ZS, σ1 = zst σ 0 0 t0 →
  (InR (σ1 0 0)) ∧
  (((σ1 0 0) ≤ 0 →
    (InR v2) ∧
    ((¬ v2 = 0 →
      ((¬ v2 = 1 →
        ((¬ v2 = 2 →
          (0 ≤ v1 ∧ v1 < 3200) ∧
          post (σ1 31 v1) σ1
        ) ∧
        (v2 = 2 →
          (0 ≤ v1 ∧ v1 < 3200) ∧
          post (σ1 30 v1) σ1
        ))
      ) ∧
      (v2 = 1 →
        (0 ≤ v1 ∧ v1 < 3200) ∧
        post (σ1 29 v1) σ1
      ))
    ) ∧
    (v2 = 0 →
      (0 ≤ v1 ∧ v1 < 3200) ∧
      post (σ1 28 v1) σ1
    ))
  ) ∧
  (0 < (σ1 0 0) →
    post 0 σ1
  ))
def wm_step_26 (post : Int → ZS → Prop) (v1 : Int) (v2 : Int) (σ : ZS) : Prop :=
  wm_step_27 post v1 v2 1 σ
def wm_step (a0 : Int) (a1 : Int) (σ : ZS) (post : Int → ZS → Prop) : Prop :=
  (InR a0) ∧
  ((a0 < 0 →
    wm_step_26 post a0 a1 σ
  ) ∧
  (0 ≤ a0 →
    (InR (σ 0 53)) ∧
    (((σ 0 53) ≤ a0 →
      wm_step_26 post a0 a1 σ
    ) ∧
    (a0 < (σ 0 53) →
      (InR a1) ∧
      ((a1 < 0 →
        wm_step_26 post a0 a1 σ
      ) ∧
      (0 ≤ a1 →
        ((4 ≤ a1 →
          wm_step_26 post a0 a1 σ
        ) ∧
        (a1 < 4 →
          wm_step_27 post a0 a1 0 σ
        ))
      ))
    ))
  ))
/- X13_about -/
def wm_about (a0 : Int) (σ : ZS) (post : Int → ZS → Prop) : Prop :=
  ∀ σ1 : ZS, σ1 = zst σ 0 0 0 →
  (InR a0) ∧
  ((a0 = 0 →
    post (σ1 0 18) σ1
  )) ∧
  ((a0 = 1 →
    post (σ1 0 51) σ1
  )) ∧
  ((a0 = 2 →
    post (σ1 0 53) σ1
  )) ∧
  ((a0 = 3 →
    post (σ1 0 52) σ1
  )) ∧
  ((a0 = 4 →
    post (σ1 0 10) σ1
  )) ∧
  ((a0 = 5 →
    post (σ1 0 33) σ1
  )) ∧
  ((a0 = 6 →
    post (σ1 0 40) σ1
  )) ∧
  ((a0 < 0 ∨ 6 < a0) →
    post 0 σ1
  )
