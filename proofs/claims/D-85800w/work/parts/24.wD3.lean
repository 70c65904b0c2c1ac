/-! the press's methods with steps (printed by tools/walkgenD.py) -/
theorem gC_X1_169_X5 {Γ : ZG} {cc : ByteArray} {fr lo nL mc0 ms0 k n pc : Nat} {σ : ZS} {xs : va_W} {lv : List (Nat × Value)} {st : List Value} {l : Launch} {D : va_G} {ds : Nat → ClassId} {ad : Nat → Nat} (X : ZX Γ cc RX1 fr lo) (K : ZCap Γ l (ΘC D ds ad) nL mc0 ms0) {o : Nat} (ho : isSy o) (d : decode cc pc = .ok (.getfield 169, 3)) (h : Z Γ k n σ xs (pc + 3) lv (.int (iz (σ o 0)) :: st)) : Z Γ k n σ xs pc lv (.ref (ad o) :: st) := z_getN' (C := RX5) (T := TX5) (N0 := 11) (ref := RX5) (host := "MatrixPress") (kd := 0) X K in_X5 o (isSy_75 ho) (LC_sy ho) rfl 0 (Nat.le_of_ble_eq_true rfl) q290 (fun _ h => h) rfl d h
theorem gC_X1_120_X1 {Γ : ZG} {cc : ByteArray} {fr lo nL mc0 ms0 k n pc : Nat} {σ : ZS} {xs : va_W} {lv : List (Nat × Value)} {st : List Value} {l : Launch} {D : va_G} {ds : Nat → ClassId} {ad : Nat → Nat} (X : ZX Γ cc RX1 fr lo) (K : ZCap Γ l (ΘC D ds ad) nL mc0 ms0) (d : decode cc pc = .ok (.getfield 120, 3)) (h : Z Γ k n σ xs (pc + 3) lv (.int (iz (σ 0 14)) :: st)) : Z Γ k n σ xs pc lv (.ref (ad 0) :: st) := z_get' (C := RX1) (T := TX1) (N0 := 18) (ref := RX1) (kd := 0) X K in_X1 0 (Nat.le_of_ble_eq_true rfl) rfl rfl 14 (Nat.le_of_ble_eq_true rfl) q534 (fun _ h => h) rfl d h
theorem gC_X1_64_X1 {Γ : ZG} {cc : ByteArray} {fr lo nL mc0 ms0 k n pc : Nat} {σ : ZS} {xs : va_W} {lv : List (Nat × Value)} {st : List Value} {l : Launch} {D : va_G} {ds : Nat → ClassId} {ad : Nat → Nat} (X : ZX Γ cc RX1 fr lo) (K : ZCap Γ l (ΘC D ds ad) nL mc0 ms0) (d : decode cc pc = .ok (.getfield 64, 3)) (h : Z Γ k n σ xs (pc + 3) lv (.ref (ad 76) :: st)) : Z Γ k n σ xs pc lv (.ref (ad 0) :: st) := z_get' (C := RX1) (T := TX1) (N0 := 18) (ref := RX1) (kd := 78) X K in_X1 0 (Nat.le_of_ble_eq_true rfl) rfl rfl 16 (Nat.le_of_ble_eq_true rfl) q536 (fun _ h => h) rfl d h
theorem gC_X1_125_X1 {Γ : ZG} {cc : ByteArray} {fr lo nL mc0 ms0 k n pc : Nat} {σ : ZS} {xs : va_W} {lv : List (Nat × Value)} {st : List Value} {l : Launch} {D : va_G} {ds : Nat → ClassId} {ad : Nat → Nat} (X : ZX Γ cc RX1 fr lo) (K : ZCap Γ l (ΘC D ds ad) nL mc0 ms0) (d : decode cc pc = .ok (.getfield 125, 3)) (h : Z Γ k n σ xs (pc + 3) lv (.int (iz (σ 0 15)) :: st)) : Z Γ k n σ xs pc lv (.ref (ad 0) :: st) := z_get' (C := RX1) (T := TX1) (N0 := 18) (ref := RX1) (kd := 0) X K in_X1 0 (Nat.le_of_ble_eq_true rfl) rfl rfl 15 (Nat.le_of_ble_eq_true rfl) q535 (fun _ h => h) rfl d h
theorem gC_X1_259_X1 {Γ : ZG} {cc : ByteArray} {fr lo nL mc0 ms0 k n pc : Nat} {σ : ZS} {xs : va_W} {lv : List (Nat × Value)} {st : List Value} {l : Launch} {D : va_G} {ds : Nat → ClassId} {ad : Nat → Nat} (X : ZX Γ cc RX1 fr lo) (K : ZCap Γ l (ΘC D ds ad) nL mc0 ms0) (d : decode cc pc = .ok (.getfield 259, 3)) (h : Z Γ k n σ xs (pc + 3) lv (.int (iz (σ 0 13)) :: st)) : Z Γ k n σ xs pc lv (.ref (ad 0) :: st) := z_get' (C := RX1) (T := TX1) (N0 := 18) (ref := RX1) (kd := 0) X K in_X1 0 (Nat.le_of_ble_eq_true rfl) rfl rfl 13 (Nat.le_of_ble_eq_true rfl) q533 (fun _ h => h) rfl d h
theorem gC_X1_36_X1 {Γ : ZG} {cc : ByteArray} {fr lo nL mc0 ms0 k n pc : Nat} {σ : ZS} {xs : va_W} {lv : List (Nat × Value)} {st : List Value} {l : Launch} {D : va_G} {ds : Nat → ClassId} {ad : Nat → Nat} (X : ZX Γ cc RX1 fr lo) (K : ZCap Γ l (ΘC D ds ad) nL mc0 ms0) (d : decode cc pc = .ok (.getfield 36, 3)) (h : Z Γ k n σ xs (pc + 3) lv (.ref (ad 48) :: st)) : Z Γ k n σ xs pc lv (.ref (ad 0) :: st) := z_get' (C := RX1) (T := TX1) (N0 := 18) (ref := RX1) (kd := 50) X K in_X1 0 (Nat.le_of_ble_eq_true rfl) rfl rfl 4 (Nat.le_of_ble_eq_true rfl) q524 (fun _ h => h) rfl d h
theorem gC_X1_91_X1 {Γ : ZG} {cc : ByteArray} {fr lo nL mc0 ms0 k n pc : Nat} {σ : ZS} {xs : va_W} {lv : List (Nat × Value)} {st : List Value} {l : Launch} {D : va_G} {ds : Nat → ClassId} {ad : Nat → Nat} (X : ZX Γ cc RX1 fr lo) (K : ZCap Γ l (ΘC D ds ad) nL mc0 ms0) (d : decode cc pc = .ok (.getfield 91, 3)) (h : Z Γ k n σ xs (pc + 3) lv (.ref (ad 65) :: st)) : Z Γ k n σ xs pc lv (.ref (ad 0) :: st) := z_get' (C := RX1) (T := TX1) (N0 := 18) (ref := RX1) (kd := 67) X K in_X1 0 (Nat.le_of_ble_eq_true rfl) rfl rfl 6 (Nat.le_of_ble_eq_true rfl) q526 (fun _ h => h) rfl d h
theorem gC_X1_131_X12 {Γ : ZG} {cc : ByteArray} {fr lo nL mc0 ms0 k n pc : Nat} {σ : ZS} {xs : va_W} {lv : List (Nat × Value)} {st : List Value} {l : Launch} {D : va_G} {ds : Nat → ClassId} {ad : Nat → Nat} (X : ZX Γ cc RX1 fr lo) (K : ZCap Γ l (ΘC D ds ad) nL mc0 ms0) (d : decode cc pc = .ok (.getfield 131, 3)) (h : Z Γ k n σ xs (pc + 3) lv (.ref (ad 75) :: st)) : Z Γ k n σ xs pc lv (.ref (ad 65) :: st) := z_getN' (C := RX12) (T := TX12) (N0 := 12) (ref := RX12) (host := "MatrixPress") (kd := 77) X K in_X12 65 (Nat.le_of_ble_eq_true rfl) rfl rfl 8 (Nat.le_of_ble_eq_true rfl) q489 (fun _ h => h) rfl d h
theorem pC_X1_125_X1 {Γ : ZG} {cc : ByteArray} {fr lo nL mc0 ms0 k n pc : Nat} {σ : ZS} {xs : va_W} {lv : List (Nat × Value)} {st : List Value} {l : Launch} {D : va_G} {ds : Nat → ClassId} {ad : Nat → Nat} {v : Int} (X : ZX Γ cc RX1 fr lo) (K : ZCap Γ l (ΘC D ds ad) nL mc0 ms0) (d : decode cc pc = .ok (.putfield 125, 3)) (h : ∀ σ', σ' = zst σ 0 15 v → Z Γ k n σ' xs (pc + 3) lv st) : Z Γ k n σ xs pc lv (.int (iz v) :: .ref (ad 0) :: st) := z_put' (C := RX1) (T := TX1) (N0 := 18) (ref := RX1) (kd := 0) (ty := .int) X K in_X1 tyX1 tyX1_ok nmX1 0 (Nat.le_of_ble_eq_true rfl) rfl rfl 15 (Nat.le_of_ble_eq_true rfl) q535 (fun _ h => h) rfl (by decide +kernel) rfl rfl rfl d h
theorem gC_X1_117_X12 {Γ : ZG} {cc : ByteArray} {fr lo nL mc0 ms0 k n pc : Nat} {σ : ZS} {xs : va_W} {lv : List (Nat × Value)} {st : List Value} {l : Launch} {D : va_G} {ds : Nat → ClassId} {ad : Nat → Nat} (X : ZX Γ cc RX1 fr lo) (K : ZCap Γ l (ΘC D ds ad) nL mc0 ms0) (d : decode cc pc = .ok (.getfield 117, 3)) (h : Z Γ k n σ xs (pc + 3) lv (.int (iz (σ 65 9)) :: st)) : Z Γ k n σ xs pc lv (.ref (ad 65) :: st) := z_getN' (C := RX12) (T := TX12) (N0 := 12) (ref := RX12) (host := "MatrixPress") (kd := 0) X K in_X12 65 (Nat.le_of_ble_eq_true rfl) rfl rfl 9 (Nat.le_of_ble_eq_true rfl) q490 (fun _ h => h) rfl d h
theorem pC_X1_120_X1 {Γ : ZG} {cc : ByteArray} {fr lo nL mc0 ms0 k n pc : Nat} {σ : ZS} {xs : va_W} {lv : List (Nat × Value)} {st : List Value} {l : Launch} {D : va_G} {ds : Nat → ClassId} {ad : Nat → Nat} {v : Int} (X : ZX Γ cc RX1 fr lo) (K : ZCap Γ l (ΘC D ds ad) nL mc0 ms0) (d : decode cc pc = .ok (.putfield 120, 3)) (h : ∀ σ', σ' = zst σ 0 14 v → Z Γ k n σ' xs (pc + 3) lv st) : Z Γ k n σ xs pc lv (.int (iz v) :: .ref (ad 0) :: st) := z_put' (C := RX1) (T := TX1) (N0 := 18) (ref := RX1) (kd := 0) (ty := .int) X K in_X1 tyX1 tyX1_ok nmX1 0 (Nat.le_of_ble_eq_true rfl) rfl rfl 14 (Nat.le_of_ble_eq_true rfl) q534 (fun _ h => h) rfl (by decide +kernel) rfl rfl rfl d h
theorem gC_X1_121_X12 {Γ : ZG} {cc : ByteArray} {fr lo nL mc0 ms0 k n pc : Nat} {σ : ZS} {xs : va_W} {lv : List (Nat × Value)} {st : List Value} {l : Launch} {D : va_G} {ds : Nat → ClassId} {ad : Nat → Nat} (X : ZX Γ cc RX1 fr lo) (K : ZCap Γ l (ΘC D ds ad) nL mc0 ms0) (d : decode cc pc = .ok (.getfield 121, 3)) (h : Z Γ k n σ xs (pc + 3) lv (.int (iz (σ 65 11)) :: st)) : Z Γ k n σ xs pc lv (.ref (ad 65) :: st) := z_getN' (C := RX12) (T := TX12) (N0 := 12) (ref := RX12) (host := "MatrixPress") (kd := 0) X K in_X12 65 (Nat.le_of_ble_eq_true rfl) rfl rfl 11 (Nat.le_of_ble_eq_true rfl) q493 (fun _ h => h) rfl d h
/- X1_about -/
def wd_X1_about (a0 : Int) (mc : Nat) (ms : Nat) (σ : ZS) (d : ZDy) (post : Int → ZS → ZDy → Prop) : Prop :=
  (InR a0) ∧
  ((a0 = 0 →
    ((0 ≤ (σ 0 17) →
      (2 ≤ (σ 0 17) ∧ (σ 0 17) < 32) ∧
      post (σ ((σ 0 17).toNat) 0) σ d
    ) ∧
    ((σ 0 17) < 0 →
      post (-1) σ d
    ))
  )) ∧
  ((a0 = 1 →
    post (σ 0 14) σ d
  )) ∧
  ((a0 = 2 →
    post (d.2.1.2.2.length : Int) σ d
  )) ∧
  ((a0 = 3 →
    post (σ 0 15) σ d
  )) ∧
  ((a0 = 4 →
    post (σ 0 11) σ d
  )) ∧
  ((a0 = 5 →
    post (σ 0 12) σ d
  )) ∧
  ((a0 = 6 →
    post (σ 0 13) σ d
  )) ∧
  ((a0 < 0 ∨ 6 < a0) →
    post 0 σ d
  )
set_option maxRecDepth 100000 in
theorem mtd_X1_about (l : Launch) (D : va_G) (ds : Nat → ClassId) (ad : Nat → Nat) (δ : Nat × Nat) (a0 : Int) (mc : Nat) (ms : Nat) (σ : ZS) (d : ZDy) (post : Int → ZS → ZDy → Prop) (h : wd_X1_about a0 mc ms σ d post) : ZDI l (ΘC D ds ad) (ds 5) δ yX1_about cX1_about 2 .int 4 90 mc ms [.ref (ad 0), .int (iz a0)] σ (dyW (ds 5) δ (ad 75) (ad 76) d) (fun r σ xs => ∃ d : ZDy, xs = dyW (ds 5) δ (ad 75) (ad 76) d ∧ post r σ d) := by
  refine ZDI.of (by decide) (Nat.le_of_ble_eq_true rfl) (fun Γ X K E hR => ?_)
  have X : ZX Γ cX1_about RX1 4 90 := X
  refine z_sub [0, 1] (lv' := [(0, .ref (ad 0)), (1, .int (iz a0))]) rfl ?_
  refine z_iload_n X 1 dX1_about_0 rfl ?_
  obtain ⟨i1, h⟩ := h
  obtain ⟨k, h⟩ := h
  by_cases c4 : a0 = 0
  · refine z_swIn X 0 44 dX1_about_1 c4 (by decide) (by decide) (by decide) rfl rfl ?_
    have h := k c4
    refine z_aload_n X 0 dX1_about_44 rfl ?_
    refine gC_X1_162_X1 X K dX1_about_45 ?_
    refine z_ifnonnullQ X 55 dX1_about_48 rfl (fun c2 => ?_) (fun c2 => ?_)
    · have h := h.1 c2
      refine z_aload_n X 0 dX1_about_55 rfl ?_
      obtain ⟨y3, h⟩ := h
      refine gC_X1_162_X1R X K y3 dX1_about_56 ?_
      refine gC_X1_169_X5 X K (isSy_nn y3) dX1_about_59 ?_
      exact hR _ _ _ _ _ _ _ dX1_about_62 rfl (⟨Nat.zero_le _, Nat.zero_le _⟩ : 0 ≤ mc ∧ 0 ≤ ms).1 (⟨Nat.zero_le _, Nat.zero_le _⟩ : 0 ≤ mc ∧ 0 ≤ ms).2 ⟨_, rfl, h⟩
    · have h := h.2 c2
      refine z_iconst X (-1) dX1_about_51 ?_
      refine z_goto (tgt := 62) X dX1_about_52 rfl ?_
      exact hR _ _ _ _ _ _ _ dX1_about_62 rfl (⟨Nat.zero_le _, Nat.zero_le _⟩ : 0 ≤ mc ∧ 0 ≤ ms).1 (⟨Nat.zero_le _, Nat.zero_le _⟩ : 0 ≤ mc ∧ 0 ≤ ms).2 ⟨_, rfl, h⟩
  · obtain ⟨k, h⟩ := h
    by_cases c5 : a0 = 1
    · refine z_swIn X 1 63 dX1_about_1 c5 (by decide) (by decide) (by decide) rfl rfl ?_
      have h := k c5
      refine z_aload_n X 0 dX1_about_63 rfl ?_
      refine gC_X1_120_X1 X K dX1_about_64 ?_
      exact hR _ _ _ _ _ _ _ dX1_about_67 rfl (⟨Nat.zero_le _, Nat.zero_le _⟩ : 0 ≤ mc ∧ 0 ≤ ms).1 (⟨Nat.zero_le _, Nat.zero_le _⟩ : 0 ≤ mc ∧ 0 ≤ ms).2 ⟨_, rfl, h⟩
    · obtain ⟨k, h⟩ := h
      by_cases c6 : a0 = 2
      · refine z_swIn X 2 68 dX1_about_1 c6 (by decide) (by decide) (by decide) rfl rfl ?_
        have h := k c6
        refine z_aload_n X 0 dX1_about_68 rfl ?_
        refine gC_X1_64_X1 X K dX1_about_69 ?_
        refine z_dySize2 q906 X K rfl (Nat.le_of_ble_eq_true rfl) dX1_about_72 (⟨(⟨Nat.zero_le _, Nat.zero_le _⟩ : 0 ≤ mc ∧ 0 ≤ ms).1, (⟨Nat.zero_le _, Nat.zero_le _⟩ : 0 ≤ mc ∧ 0 ≤ ms).2⟩) ?_
        exact hR _ _ _ _ _ _ _ dX1_about_75 rfl (⟨Nat.zero_le _, Nat.zero_le _⟩ : 0 ≤ mc ∧ 0 ≤ ms).1 (⟨Nat.zero_le _, Nat.zero_le _⟩ : 0 ≤ mc ∧ 0 ≤ ms).2 ⟨_, rfl, h⟩
      · obtain ⟨k, h⟩ := h
        by_cases c7 : a0 = 3
        · refine z_swIn X 3 76 dX1_about_1 c7 (by decide) (by decide) (by decide) rfl rfl ?_
          have h := k c7
          refine z_aload_n X 0 dX1_about_76 rfl ?_
          refine gC_X1_125_X1 X K dX1_about_77 ?_
          exact hR _ _ _ _ _ _ _ dX1_about_80 rfl (⟨Nat.zero_le _, Nat.zero_le _⟩ : 0 ≤ mc ∧ 0 ≤ ms).1 (⟨Nat.zero_le _, Nat.zero_le _⟩ : 0 ≤ mc ∧ 0 ≤ ms).2 ⟨_, rfl, h⟩
        · obtain ⟨k, h⟩ := h
          by_cases c8 : a0 = 4
          · refine z_swIn X 4 81 dX1_about_1 c8 (by decide) (by decide) (by decide) rfl rfl ?_
            have h := k c8
            refine z_aload_n X 0 dX1_about_81 rfl ?_
            refine gC_X1_95_X1 X K dX1_about_82 ?_
            exact hR _ _ _ _ _ _ _ dX1_about_85 rfl (⟨Nat.zero_le _, Nat.zero_le _⟩ : 0 ≤ mc ∧ 0 ≤ ms).1 (⟨Nat.zero_le _, Nat.zero_le _⟩ : 0 ≤ mc ∧ 0 ≤ ms).2 ⟨_, rfl, h⟩
          · obtain ⟨k, h⟩ := h
            by_cases c9 : a0 = 5
            · refine z_swIn X 5 86 dX1_about_1 c9 (by decide) (by decide) (by decide) rfl rfl ?_
              have h := k c9
              refine z_aload_n X 0 dX1_about_86 rfl ?_
              refine gC_X1_244_X1 X K dX1_about_87 ?_
              exact hR _ _ _ _ _ _ _ dX1_about_90 rfl (⟨Nat.zero_le _, Nat.zero_le _⟩ : 0 ≤ mc ∧ 0 ≤ ms).1 (⟨Nat.zero_le _, Nat.zero_le _⟩ : 0 ≤ mc ∧ 0 ≤ ms).2 ⟨_, rfl, h⟩
            · obtain ⟨k, h⟩ := h
              by_cases c10 : a0 = 6
              · refine z_swIn X 6 91 dX1_about_1 c10 (by decide) (by decide) (by decide) rfl rfl ?_
                have h := k c10
                refine z_aload_n X 0 dX1_about_91 rfl ?_
                refine gC_X1_259_X1 X K dX1_about_92 ?_
                exact hR _ _ _ _ _ _ _ dX1_about_95 rfl (⟨Nat.zero_le _, Nat.zero_le _⟩ : 0 ≤ mc ∧ 0 ≤ ms).1 (⟨Nat.zero_le _, Nat.zero_le _⟩ : 0 ≤ mc ∧ 0 ≤ ms).2 ⟨_, rfl, h⟩
              · have c : a0 < 0 ∨ 6 < a0 := by omega
                have h := h c
                refine z_swOut X 96 dX1_about_1 i1 c rfl ?_
                refine z_iconst X 0 dX1_about_96 ?_
                exact hR _ _ _ _ _ _ _ dX1_about_97 rfl (⟨Nat.zero_le _, Nat.zero_le _⟩ : 0 ≤ mc ∧ 0 ≤ ms).1 (⟨Nat.zero_le _, Nat.zero_le _⟩ : 0 ≤ mc ∧ 0 ≤ ms).2 ⟨_, rfl, h⟩
/- X1_step -/
def wd_X1_step_24 (mc ms : Nat) (post : Int → ZS → ZDy → Prop) (k : Nat) (n : Nat) (d : ZDy) (σ : ZS) : Prop :=
  (k ≤ mc ∧ n ≤ ms) ∧
  False
def wd_X1_step (a0 : Int) (a1 : Int) (mc : Nat) (ms : Nat) (σ : ZS) (d : ZDy) (post : Int → ZS → ZDy → Prop) : Prop :=
  (InR a0) ∧
  ((a0 < 0 →
    wd_X1_step_24 mc ms post 0 0 d σ
  ) ∧
  (0 ≤ a0 →
    (InR (d.2.1.2.2.length : Int)) ∧
    (((d.2.1.2.2.length : Int) ≤ a0 →
      wd_X1_step_24 mc ms post 0 0 d σ
    ) ∧
    (a0 < (d.2.1.2.2.length : Int) →
      (InR a1) ∧
      ((a1 < 0 →
        wd_X1_step_24 mc ms post 0 0 d σ
      ) ∧
      (0 ≤ a1 →
        ((a1 ≤ 3 →
          (yOK d.2.1) ∧
          (0 ≤ a0 ∧ a0 < (d.2.1.2.2.length : Int)) ∧
          ∀ a8 : Nat, d.2.1.2.2[(a0).toNat]? = some a8 →
          (a8 ∈ d.2.2.1) ∧
          ((¬ a1 = 0 →
            ((¬ a1 = 1 →
              ((¬ a1 = 2 →
                (a8 ∈ d.2.2.1) ∧
                post (d.2.2.2 a8 3) σ d
              ) ∧
              (a1 = 2 →
                (a8 ∈ d.2.2.1) ∧
                post (d.2.2.2 a8 2) σ d
              ))
            ) ∧
            (a1 = 1 →
              (a8 ∈ d.2.2.1) ∧
              post (d.2.2.2 a8 1) σ d
            ))
          ) ∧
          (a1 = 0 →
            (a8 ∈ d.2.2.1) ∧
            post (d.2.2.2 a8 0) σ d
          ))
        ) ∧
        (3 < a1 →
          wd_X1_step_24 mc ms post 0 0 d σ
        ))
      ))
    ))
  ))
set_option maxRecDepth 100000 in
theorem wkd_X1_step_24 {Γ : ZG} {l : Launch} {D : va_G} {ds : Nat → ClassId} {ad : Nat → Nat} {δ : Nat × Nat} {mc ms : Nat} {post : Int → ZS → ZDy → Prop} (X : ZX Γ cX1_step RX1 4 90) (K : ZCap Γ l (ΘC D ds ad) 4 mc ms) (E : ZDe Γ (ds 5) δ) (hR : ZDretI Γ cX1_step .int mc ms (fun r σ xs => ∃ d : ZDy, xs = dyW (ds 5) δ (ad 75) (ad 76) d ∧ post r σ d)) (k : Nat) (n : Nat) (d : ZDy) (σ : ZS) (h : wd_X1_step_24 mc ms post k n d σ) : Z Γ k n σ (dyW (ds 5) δ (ad 75) (ad 76) d) 24 [] [] := by
  obtain ⟨hkn, h⟩ := h
  exact h.elim
set_option maxRecDepth 100000 in
theorem mtd_X1_step (l : Launch) (D : va_G) (ds : Nat → ClassId) (ad : Nat → Nat) (δ : Nat × Nat) (a0 : Int) (a1 : Int) (mc : Nat) (ms : Nat) (σ : ZS) (d : ZDy) (post : Int → ZS → ZDy → Prop) (h : wd_X1_step a0 a1 mc ms σ d post) : ZDI l (ΘC D ds ad) (ds 5) δ yX1_step cX1_step 4 .int 4 90 mc ms [.ref (ad 0), .int (iz a0), .int (iz a1)] σ (dyW (ds 5) δ (ad 75) (ad 76) d) (fun r σ xs => ∃ d : ZDy, xs = dyW (ds 5) δ (ad 75) (ad 76) d ∧ post r σ d) := by
  refine ZDI.of (by decide) (Nat.le_of_ble_eq_true rfl) (fun Γ X K E hR => ?_)
  have X : ZX Γ cX1_step RX1 4 90 := X
  refine z_sub [0, 1, 2] (lv' := [(0, .ref (ad 0)), (1, .int (iz a0)), (2, .int (iz a1))]) rfl ?_
  refine z_iload_n X 1 dX1_step_0 rfl ?_
  obtain ⟨i1, h⟩ := h
  refine z_if_lt X 24 dX1_step_1 rfl i1 (fun c2 => ?_) (fun c2 => ?_)
  · have h := h.1 c2
    exact z_sub [] rfl (wkd_X1_step_24 X K E hR _ _ _ _ h)
  · have h := h.2 c2
    refine z_iload_n X 1 dX1_step_4 rfl ?_
    refine z_aload_n X 0 dX1_step_5 rfl ?_
    refine gC_X1_64_X1 X K dX1_step_6 ?_
    refine z_dySize2 q906 X K rfl (Nat.le_of_ble_eq_true rfl) dX1_step_9 (⟨(⟨Nat.zero_le _, Nat.zero_le _⟩ : 0 ≤ mc ∧ 0 ≤ ms).1, (⟨Nat.zero_le _, Nat.zero_le _⟩ : 0 ≤ mc ∧ 0 ≤ ms).2⟩) ?_
    obtain ⟨i3, h⟩ := h
    refine z_icmp_ge X 24 dX1_step_12 rfl i1 i3 (fun c4 => ?_) (fun c4 => ?_)
    · have h := h.1 c4
      exact z_sub [] rfl (wkd_X1_step_24 X K E hR _ _ _ _ h)
    · have h := h.2 c4
      refine z_iload_n X 2 dX1_step_15 rfl ?_
      obtain ⟨i5, h⟩ := h
      refine z_if_lt X 24 dX1_step_16 rfl i5 (fun c6 => ?_) (fun c6 => ?_)
      · have h := h.1 c6
        exact z_sub [] rfl (wkd_X1_step_24 X K E hR _ _ _ _ h)
      · have h := h.2 c6
        refine z_iload_n X 2 dX1_step_19 rfl ?_
        refine z_iconst X 3 dX1_step_20 ?_
        refine z_icmp_le X 32 dX1_step_21 rfl i5 (by decide) (fun c7 => ?_) (fun c7 => ?_)
        · have h := h.1 c7
          refine z_aload_n X 0 dX1_step_32 rfl ?_
          refine gC_X1_64_X1 X K dX1_step_33 ?_
          refine z_iload_n X 1 dX1_step_36 rfl ?_
          obtain ⟨g9, h⟩ := h
          obtain ⟨g10, h⟩ := h
          refine z_dyGet2 q907 X K rfl (Nat.le_of_ble_eq_true rfl) dX1_step_37 g9 g10 (⟨(⟨Nat.zero_le _, Nat.zero_le _⟩ : 0 ≤ mc ∧ 0 ≤ ms).1, (⟨Nat.zero_le _, Nat.zero_le _⟩ : 0 ≤ mc ∧ 0 ≤ ms).2⟩) (fun a8 ea8 => ?_)
          have h := h a8 ea8
          obtain ⟨g11, h⟩ := h
          refine z_stCast q908 X K dX1_step_40 g11 ?_
          refine z_astore_nK X K (lv' := [(3, .ref a8), (0, .ref (ad 0)), (1, .int (iz a0)), (2, .int (iz a1))]) dX1_step_43 rfl rfl ?_
          refine z_iload_n X 3 dX1_step_44 rfl ?_
          refine z_if_ne X 55 dX1_step_45 rfl i5 (fun c12 => ?_) (fun c12 => ?_)
          · have h := h.1 c12
            refine z_iload_n X 3 dX1_step_55 rfl ?_
            refine z_iconst X 1 dX1_step_56 ?_
            refine z_icmp_ne X 67 dX1_step_57 rfl i5 (by decide) (fun c13 => ?_) (fun c13 => ?_)
            · have h := h.1 c13
              refine z_iload_n X 3 dX1_step_67 rfl ?_
              refine z_iconst X 2 dX1_step_68 ?_
              refine z_icmp_ne X 79 dX1_step_69 rfl i5 (by decide) (fun c14 => ?_) (fun c14 => ?_)
              · have h := h.1 c14
                refine z_aload_n X 0 dX1_step_79 rfl ?_
                obtain ⟨g15, h⟩ := h
                refine z_stGet (j := 3) X K rfl (by decide) q760 dX1_step_80 g15 ?_
                exact hR _ _ _ _ _ _ _ dX1_step_83 rfl (⟨Nat.zero_le _, Nat.zero_le _⟩ : 0 ≤ mc ∧ 0 ≤ ms).1 (⟨Nat.zero_le _, Nat.zero_le _⟩ : 0 ≤ mc ∧ 0 ≤ ms).2 ⟨_, rfl, h⟩
              · have h := h.2 c14
                refine z_aload_n X 0 dX1_step_72 rfl ?_
                obtain ⟨g16, h⟩ := h
                refine z_stGet (j := 2) X K rfl (by decide) q758 dX1_step_73 g16 ?_
                refine z_goto (tgt := 83) X dX1_step_76 rfl ?_
                exact hR _ _ _ _ _ _ _ dX1_step_83 rfl (⟨Nat.zero_le _, Nat.zero_le _⟩ : 0 ≤ mc ∧ 0 ≤ ms).1 (⟨Nat.zero_le _, Nat.zero_le _⟩ : 0 ≤ mc ∧ 0 ≤ ms).2 ⟨_, rfl, h⟩
            · have h := h.2 c13
              refine z_aload_n X 0 dX1_step_60 rfl ?_
              obtain ⟨g17, h⟩ := h
              refine z_stGet (j := 1) X K rfl (by decide) q757 dX1_step_61 g17 ?_
              refine z_goto (tgt := 83) X dX1_step_64 rfl ?_
              exact hR _ _ _ _ _ _ _ dX1_step_83 rfl (⟨Nat.zero_le _, Nat.zero_le _⟩ : 0 ≤ mc ∧ 0 ≤ ms).1 (⟨Nat.zero_le _, Nat.zero_le _⟩ : 0 ≤ mc ∧ 0 ≤ ms).2 ⟨_, rfl, h⟩
          · have h := h.2 c12
            refine z_aload_n X 0 dX1_step_48 rfl ?_
            obtain ⟨g18, h⟩ := h
            refine z_stGet (j := 0) X K rfl (by decide) q754 dX1_step_49 g18 ?_
            refine z_goto (tgt := 83) X dX1_step_52 rfl ?_
            exact hR _ _ _ _ _ _ _ dX1_step_83 rfl (⟨Nat.zero_le _, Nat.zero_le _⟩ : 0 ≤ mc ∧ 0 ≤ ms).1 (⟨Nat.zero_le _, Nat.zero_le _⟩ : 0 ≤ mc ∧ 0 ≤ ms).2 ⟨_, rfl, h⟩
        · have h := h.2 c7
          exact z_sub [] rfl (wkd_X1_step_24 X K E hR _ _ _ _ h)
/- X1_encode -/
def wbd_X1_encode_320 (mc ms : Nat) (post : Int → ZS → ZDy → Prop) (C320 : Int × Int × Nat × Nat × ZDy × ZS → Prop) : Int × Int × Nat × Nat × ZDy × ZS → Prop := fun (v3, v4, k, n, d, σ) =>
  (k ≤ mc ∧ n ≤ ms) ∧
  (2 ≤ v3 ∧ v3 < 32) ∧
  (InR v4) ∧
  (InR (σ (v3.toNat) 10)) ∧
  (((σ (v3.toNat) 10) ≤ v4 →
    ∀ σ5 : ZS, σ5 = zst σ 0 17 (v3.toNat : Nat) →
    (k + 300 ≤ mc ∧ n + 4800 ≤ ms) ∧
    wc_X1_draw σ5 (fun σ7 => 
    post (σ7 (v3.toNat) 0) σ7 d)
  ) ∧
  (v4 < (σ (v3.toNat) 10) →
    wc_X1_gathers (v3.toNat) v4 σ (fun r9 σ8 => 
    wc_X5_checksOf (v3.toNat) σ8 (fun r11 σ10 => 
    wc_X3_check r9 r11 σ10 (fun σ12 => 
    wc_X1_spreads (v3.toNat) v4 r9 σ12 (fun σ13 => 
    C320 (v3, v4 + 1, k, n, d, σ13)))))
  ))
def wbd_X1_encode_285 (mc ms : Nat) (post : Int → ZS → ZDy → Prop) (C285 : Int × Int × Nat × Nat × ZDy × ZS → Prop) : Int × Int × Nat × Nat × ZDy × ZS → Prop := fun (v3, v4, k, n, d, σ) =>
  (k ≤ mc ∧ n ≤ ms) ∧
  (2 ≤ v3 ∧ v3 < 32) ∧
  (InR v4) ∧
  (InR (σ (v3.toNat) 9)) ∧
  (((σ (v3.toNat) 9) ≤ v4 →
    ∃ N : Nat, zfix (wbd_X1_encode_320 mc ms post) N (v3, 0, k, n, d, σ)
  ) ∧
  (v4 < (σ (v3.toNat) 9) →
    (0 ≤ v4 ∧ v4 < 2178) ∧
    ∀ σ6 : ZS, σ6 = zst σ 74 v4 (σ 49 v4) →
    C285 (v3, v4 + 1, k, n, d, σ6)
  ))
def wbd_X1_encode_238 (mc ms : Nat) (post : Int → ZS → ZDy → Prop) (C238 : Int × Int × Nat × Nat × ZDy × ZS → Prop) : Int × Int × Nat × Nat × ZDy × ZS → Prop := fun (v3, v4, k, n, d, σ) =>
  (k ≤ mc ∧ n ≤ ms) ∧
  (InR v4) ∧
  (InR (d.1.2.2.length : Int)) ∧
  (((d.1.2.2.length : Int) ≤ v4 →
    ∃ N : Nat, zfix (wbd_X1_encode_285 mc ms post) N (v3, 0, k, n, d, σ)
  ) ∧
  (v4 < (d.1.2.2.length : Int) →
    (yOK d.1) ∧
    (0 ≤ v4 ∧ v4 < (d.1.2.2.length : Int)) ∧
    ∀ a4 : Nat, d.1.2.2[(v4).toNat]? = some a4 →
    (a4 ∈ d.2.2.1) ∧
    (a4 ∈ d.2.2.1) ∧
    (dyOK d ∧ yRoom d.2.1) ∧
    (k + 1 ≤ mc ∧ n + yGrow d.2.1 ≤ ms) ∧
    ∀ (y11 : ZY) (d12 : ZDy), yAdd d.2.1 a4 y11 → d12 = (d.1, y11, d.2.2.1, d.2.2.2) →
    C238 (v3, v4 + 1, k + 1, n + yGrow d.2.1, d12, σ)
  ))
def wd_X1_encode_225 (mc ms : Nat) (post : Int → ZS → ZDy → Prop) (v3 : Int) (t0 : Int) (k : Nat) (n : Nat) (d : ZDy) (σ : ZS) : Prop :=
  (k ≤ mc ∧ n ≤ ms) ∧
  ∀ σ1 : ZS, σ1 = zst σ 0 15 t0 →
  (yOK d.2.1) ∧
  ∀ d3 : ZDy, d3 = dyClr2 d →
  ∃ N : Nat, zfix (wbd_X1_encode_238 mc ms post) N (v3, 0, k, n, d3, σ1)
def wd_X1_encode_139 (mc ms : Nat) (C47 : Int × Int × Int × Nat × Nat × ZDy × ZS → Prop) (post : Int → ZS → ZDy → Prop) (v1 : Int) (v3 : Int) (v4 : Int) (k : Nat) (n : Nat) (d : ZDy) (σ : ZS) : Prop :=
  (k ≤ mc ∧ n ≤ ms) ∧
  (0 ≤ v4 ∧ v4 < 30) ∧
  wc_X12_fits (σ (2 + v4.toNat) 9) σ (fun r3 σ2 => r3 = 0 ∨ r3 = 1 →
  ((r3 = 0 →
    C47 (v1, v3, v4 + 1, k, n, d, σ2)
  ) ∧
  (¬ r3 = 0 →
    C47 (v1, ((2 + v4.toNat : Nat) : Int), v4 + 1, k, n, d, σ2)
  )))
def wd_X1_encode_111 (mc ms : Nat) (C47 : Int × Int × Int × Nat × Nat × ZDy × ZS → Prop) (post : Int → ZS → ZDy → Prop) (v1 : Int) (v3 : Int) (v4 : Int) (t0 : Int) (k : Nat) (n : Nat) (d : ZDy) (σ : ZS) : Prop :=
  (k ≤ mc ∧ n ≤ ms) ∧
  (InR t0) ∧
  ((t0 = 0 →
    C47 (v1, v3, v4 + 1, k, n, d, σ)
  ) ∧
  (¬ t0 = 0 →
    ((v3 < 0 →
      wd_X1_encode_139 mc ms C47 post v1 v3 v4 k n d σ
    ) ∧
    (0 ≤ v3 →
      (0 ≤ v4 ∧ v4 < 30) ∧
      (2 ≤ v3 ∧ v3 < 32) ∧
      (InR (σ (2 + v4.toNat) 9)) ∧
      (InR (σ (v3.toNat) 9)) ∧
      (((σ (v3.toNat) 9) ≤ (σ (2 + v4.toNat) 9) →
        C47 (v1, v3, v4 + 1, k, n, d, σ)
      ) ∧
      ((σ (2 + v4.toNat) 9) < (σ (v3.toNat) 9) →
        wd_X1_encode_139 mc ms C47 post v1 v3 v4 k n d σ
      ))
    ))
  ))
def wd_X1_encode_103 (mc ms : Nat) (C47 : Int × Int × Int × Nat × Nat × ZDy × ZS → Prop) (post : Int → ZS → ZDy → Prop) (v1 : Int) (v3 : Int) (v4 : Int) (t0 : Int) (t1 : Int) (k : Nat) (n : Nat) (d : ZDy) (σ : ZS) : Prop :=
  (k ≤ mc ∧ n ≤ ms) ∧
  (InR t1) ∧
  (InR t0) ∧
  ((¬ t1 = t0 →
    wd_X1_encode_111 mc ms C47 post v1 v3 v4 0 k n d σ
  ) ∧
  (t1 = t0 →
    wd_X1_encode_111 mc ms C47 post v1 v3 v4 1 k n d σ
  ))
def wd_X1_encode_94 (mc ms : Nat) (C47 : Int × Int × Int × Nat × Nat × ZDy × ZS → Prop) (post : Int → ZS → ZDy → Prop) (v1 : Int) (v3 : Int) (v4 : Int) (t0 : Int) (k : Nat) (n : Nat) (d : ZDy) (σ : ZS) : Prop :=
  (k ≤ mc ∧ n ≤ ms) ∧
  (InR v1) ∧
  ((¬ v1 = 0 →
    wd_X1_encode_103 mc ms C47 post v1 v3 v4 0 t0 k n d σ
  ) ∧
  (v1 = 0 →
    wd_X1_encode_103 mc ms C47 post v1 v3 v4 1 t0 k n d σ
  ))
def wbd_X1_encode_47 (mc ms : Nat) (post : Int → ZS → ZDy → Prop) (C47 : Int × Int × Int × Nat × Nat × ZDy × ZS → Prop) : Int × Int × Int × Nat × Nat × ZDy × ZS → Prop := fun (v1, v3, v4, k, n, d, σ) =>
  (k ≤ mc ∧ n ≤ ms) ∧
  (InR v4) ∧
  ((30 ≤ v4 →
    ((0 ≤ v3 →
      (2 ≤ v3 ∧ v3 < 32) ∧
      wc_X12_fits (σ (v3.toNat) 9) σ (fun r6 σ5 => r6 = 0 ∨ r6 = 1 →
      ∃ mc7 ms8 : Nat, (k + mc7 ≤ mc ∧ n + ms8 ≤ ms) ∧ wd_X12_write mc7 ms8 σ5 d (fun σ11 d10 =>
      ∀ σ12 : ZS, σ12 = zst σ11 0 14 (σ11 65 9) →
      (InR (σ12 65 11)) ∧
      (((σ12 65 11) = 0 →
        wd_X1_encode_225 mc ms post v3 0 (k + mc7) (n + ms8) d10 σ12
      ) ∧
      (¬ (σ12 65 11) = 0 →
        wd_X1_encode_225 mc ms post v3 1 (k + mc7) (n + ms8) d10 σ12
      ))))
    ) ∧
    (v3 < 0 →
      post (-1) σ d
    ))
  ) ∧
  (v4 < 30 →
    (InR v1) ∧
    ((v1 < 100 →
      ((v1 = 2 →
        wd_X1_encode_111 mc ms C47 post v1 v3 v4 1 k n d σ
      ) ∧
      (¬ v1 = 2 →
        ((24 ≤ v4 →
          wd_X1_encode_94 mc ms C47 post v1 v3 v4 0 k n d σ
        ) ∧
        (v4 < 24 →
          wd_X1_encode_94 mc ms C47 post v1 v3 v4 1 k n d σ
        ))
      ))
    ) ∧
    (100 ≤ v1 →
      (InR (v1 - 100)) ∧
      ((¬ v4 = (v1 - 100) →
        wd_X1_encode_111 mc ms C47 post v1 v3 v4 0 k n d σ
      ) ∧
      (v4 = (v1 - 100) →
        wd_X1_encode_111 mc ms C47 post v1 v3 v4 1 k n d σ
      ))
    ))
  ))
def wd_X1_encode_20 (mc ms : Nat) (post : Int → ZS → ZDy → Prop) (v1 : Int) (v2 : Int) (k : Nat) (n : Nat) (d : ZDy) (σ : ZS) : Prop :=
  (k ≤ mc ∧ n ≤ ms) ∧
  (InR v1) ∧
  ((v1 < 130 →
    wc_X12_begin v2 σ (fun σ3 => 
    ∃ N : Nat, zfix (wbd_X1_encode_47 mc ms post) N (v1, -1, 0, k, n, d, σ3))
  ) ∧
  (130 ≤ v1 →
    post (-2) σ d
  ))
def wd_X1_encode (a0 : Int) (mc : Nat) (ms : Nat) (σ : ZS) (d : ZDy) (post : Int → ZS → ZDy → Prop) : Prop :=
  wc_X1_take σ (fun r2 σ1 => 
  (InR a0) ∧
  ((a0 < 0 →
    post (-2) σ1 d
  ) ∧
  (0 ≤ a0 →
    ((a0 ≤ 2 →
      wd_X1_encode_20 mc ms post a0 r2 0 0 d σ1
    ) ∧
    (2 < a0 →
      ((a0 < 100 →
        post (-2) σ1 d
      ) ∧
      (100 ≤ a0 →
        wd_X1_encode_20 mc ms post a0 r2 0 0 d σ1
      ))
    ))
  )))
theorem clc_X1_166 {Γ : ZG} {cc : ByteArray} {fr lo nL mc0 ms0 k n pc : Nat} {xs : va_W} {lv : List (Nat × Value)} {st : List Value} {l : Launch} {D : va_G} {ds : Nat → ClassId} {ad : Nat → Nat} {σ : ZS} {post : ZS → Prop} (X : ZX Γ cc RX1 fr lo) (K : ZCap Γ l (ΘC D ds ad) nL mc0 ms0) (hrm : zroom 7 137 fr lo = true) (h : wc_X1_draw σ post) (hst : (st.map fun v => v.category).sum ≤ 8) (d : decode cc pc = .ok (.invokevirtual 166, 3)) (hcs : k + 300 ≤ mc0 ∧ n + 4800 ≤ ms0) (kk : ∀ (σ' : ZS), post σ' → Z Γ (k + 300) (n + 4800) σ' xs (pc + 3) lv (st)) : Z Γ k n σ xs pc lv (.ref (ad 0) :: st) := 
  z_callVV' (C := RX1) (q0 := 0) X K (mtc_X1_draw l D ds ad  σ post h) (Nat.le_of_ble_eq_true rfl) rfl rfl rfl (lw_V q933 q935 qs23 q108 q936) ⟨rfl, by decide, by decide, rfl⟩ (zroom_of (zroom_le hrm (by decide))) ⟨by rw [K.2.2.2.1]; exact hcs.1, by rw [K.2.2.2.2]; exact hcs.2⟩ hst d rfl kk
theorem clc_X1_154 {Γ : ZG} {cc : ByteArray} {fr lo nL mc0 ms0 k n pc : Nat} {xs : va_W} {lv : List (Nat × Value)} {st : List Value} {l : Launch} {D : va_G} {ds : Nat → ClassId} {ad : Nat → Nat} {a0 : Int} {a1 : Int} {σ : ZS} {post : ZS → Prop} (X : ZX Γ cc RX1 fr lo) (K : ZCap Γ l (ΘC D ds ad) nL mc0 ms0) (hrm : zroom 4 71 fr lo = true) (h : wc_X3_check a0 a1 σ post) (hst : (st.map fun v => v.category).sum ≤ 8) (d : decode cc pc = .ok (.invokevirtual 154, 3)) (hcs : k ≤ mc0 ∧ n ≤ ms0) (kk : ∀ (σ' : ZS), post σ' → Z Γ k n σ' xs (pc + 3) lv (st)) : Z Γ k n σ xs pc lv (.int (iz a1) :: .int (iz a0) :: .ref (ad 35) :: st) := 
  z_callVV' (C := RX3) (q0 := 35) X K (mtc_X3_check l D ds ad a0 a1 σ post h) (Nat.le_of_ble_eq_true rfl) rfl rfl rfl (lw_V q921 q922 q923 q110 q924) ⟨rfl, by decide, by decide, rfl⟩ (zroom_of (zroom_le hrm (by decide))) ⟨by rw [K.2.2.2.1]; exact hcs.1, by rw [K.2.2.2.2]; exact hcs.2⟩ hst d rfl kk
theorem clc_X1_110 {Γ : ZG} {cc : ByteArray} {fr lo nL mc0 ms0 k n pc : Nat} {xs : va_W} {lv : List (Nat × Value)} {st : List Value} {l : Launch} {D : va_G} {ds : Nat → ClassId} {ad : Nat → Nat} {a0 : Int} {σ : ZS} {post : Int → ZS → Prop} (X : ZX Γ cc RX1 fr lo) (K : ZCap Γ l (ΘC D ds ad) nL mc0 ms0) (hrm : zroom 6 137 fr lo = true) (h : wc_X12_fits a0 σ post) (hst : (st.map fun v => v.category).sum ≤ 8) (d : decode cc pc = .ok (.invokevirtual 110, 3)) (hcs : k ≤ mc0 ∧ n ≤ ms0) (kk : ∀ (r : Int) (σ' : ZS), (fun r σ => (r = 0 ∨ r = 1) ∧ post r σ) r σ' → Z Γ k n σ' xs (pc + 3) lv (.int (iz r) :: st)) : Z Γ k n σ xs pc lv (.int (iz a0) :: .ref (ad 65) :: st) := 
  z_callVI' (C := RX12) (q0 := 65) X K (mtc_X12_fits l D ds ad a0 σ post h) (Nat.le_of_ble_eq_true rfl) rfl rfl rfl (lw_V q670 q671 q672 q126 q673) ⟨rfl, by decide, by decide, rfl⟩ (zroom_of (zroom_le hrm (by decide))) ⟨by rw [K.2.2.2.1]; exact hcs.1, by rw [K.2.2.2.2]; exact hcs.2⟩ hst d rfl kk
theorem clc_X1_103 {Γ : ZG} {cc : ByteArray} {fr lo nL mc0 ms0 k n pc : Nat} {xs : va_W} {lv : List (Nat × Value)} {st : List Value} {l : Launch} {D : va_G} {ds : Nat → ClassId} {ad : Nat → Nat} {a1 : Int} {σ : ZS} {post : ZS → Prop} (X : ZX Γ cc RX1 fr lo) (K : ZCap Γ l (ΘC D ds ad) nL mc0 ms0) (hrm : zroom 5 118 fr lo = true) (h : wc_X12_begin a1 σ post) (hst : (st.map fun v => v.category).sum ≤ 8) (d : decode cc pc = .ok (.invokevirtual 103, 3)) (hcs : k ≤ mc0 ∧ n ≤ ms0) (kk : ∀ (σ' : ZS), post σ' → Z Γ k n σ' xs (pc + 3) lv (st)) : Z Γ k n σ xs pc lv (.int (iz a1) :: .ref (ad 71) :: .ref (ad 65) :: st) := 
  z_callVV' (C := RX12) (q0 := 65) X K (mtc_X12_begin l D ds ad a1 σ post h) (Nat.le_of_ble_eq_true rfl) rfl rfl rfl (lw_V q587 q588 q589 q126 q590) ⟨rfl, by decide, by decide, rfl⟩ (zroom_of (zroom_le hrm (by decide))) ⟨by rw [K.2.2.2.1]; exact hcs.1, by rw [K.2.2.2.2]; exact hcs.2⟩ hst d rfl kk
set_option maxRecDepth 100000 in
theorem wkd_X1_encode_320 {Γ : ZG} {l : Launch} {D : va_G} {ds : Nat → ClassId} {ad : Nat → Nat} {δ : Nat × Nat} {mc ms : Nat} {post : Int → ZS → ZDy → Prop} (X : ZX Γ cX1_encode RX1 12 314) (K : ZCap Γ l (ΘC D ds ad) 6 mc ms) (E : ZDe Γ (ds 5) δ) (hR : ZDretI Γ cX1_encode .int mc ms (fun r σ xs => ∃ d : ZDy, xs = dyW (ds 5) δ (ad 75) (ad 76) d ∧ post r σ d)) : ∀ (N : Nat) (v3 : Int) (v4 : Int) (k : Nat) (n : Nat) (d : ZDy) (σ : ZS), zfix (wbd_X1_encode_320 mc ms post) N (v3, v4, k, n, d, σ) → Z Γ k n σ (dyW (ds 5) δ (ad 75) (ad 76) d) 320 [(0, .ref (ad 0)), (3, zval ad 1 v3), (4, .int (iz v4))] [] := by
  intro N
  induction N with
  | zero => intro v3 v4 k n d σ h; exact False.elim h
  | succ N ih =>
    intro v3 v4 k n d σ h
    have h : wbd_X1_encode_320 mc ms post (zfix (wbd_X1_encode_320 mc ms post) N) (v3, v4, k, n, d, σ) := h
    have hC320 := ih
    clear ih
    generalize zfix (wbd_X1_encode_320 mc ms post) N = C320 at h hC320
    dsimp only [wbd_X1_encode_320] at h
    obtain ⟨hkn, h⟩ := h
    refine z_iload X 2 dX1_encode_320 rfl ?_
    obtain ⟨y1, h⟩ := h
    refine z_aload_nR (ad := ad) X 1 dX1_encode_322 rfl (Int.le_trans (by decide) y1.1) ?_
    refine gC_X1_144_X5 X K (isSy_nn y1) dX1_encode_323 ?_
    obtain ⟨i2, h⟩ := h
    obtain ⟨i3, h⟩ := h
    refine z_icmp_ge X 366 dX1_encode_326 rfl i2 i3 (fun c4 => ?_) (fun c4 => ?_)
    · have h := h.1 c4
      refine z_aload_n X 0 dX1_encode_366 rfl ?_
      refine z_aload_nR (ad := ad) X 1 dX1_encode_367 rfl (Int.le_trans (by decide) y1.1) ?_
      refine pC_X1_162_X1 X K dX1_encode_368 (fun σ5 eσ5 => ?_)
      have h := h σ5 eσ5
      refine z_aload_n X 0 dX1_encode_371 rfl ?_
      obtain ⟨hk6, h⟩ := h
      refine clc_X1_166 X K rfl h (Nat.le_of_ble_eq_true rfl) dX1_encode_372 ⟨hk6.1, hk6.2⟩ (fun σ7 h => ?_)
      refine z_aload_nR (ad := ad) X 1 dX1_encode_375 rfl (Int.le_trans (by decide) y1.1) ?_
      refine gC_X1_169_X5 X K (isSy_nn y1) dX1_encode_376 ?_
      exact hR _ _ _ _ _ _ _ dX1_encode_379 rfl hk6.1 hk6.2 ⟨_, rfl, h⟩
    · have h := h.2 c4
      refine z_aload_n X 0 dX1_encode_329 rfl ?_
      refine z_aload_nR (ad := ad) X 1 dX1_encode_330 rfl (Int.le_trans (by decide) y1.1) ?_
      refine z_iload X 2 dX1_encode_331 rfl ?_
      refine clc_X1_147 X K rfl h (Nat.le_of_ble_eq_true rfl) dX1_encode_333 ⟨hkn.1, hkn.2⟩ (fun r9 σ8 h => ?_)
      refine z_istoreK X K (lv' := [(5, .int (iz r9)), (0, .ref (ad 0)), (3, zval ad 1 v3), (4, .int (iz v4))]) dX1_encode_336 rfl rfl ?_
      refine z_aload_n X 1 dX1_encode_338 rfl ?_
      refine gC_X1_25_X1 X K dX1_encode_339 ?_
      refine z_iload X 0 dX1_encode_342 rfl ?_
      refine z_aload_nR (ad := ad) X 2 dX1_encode_344 rfl (Int.le_trans (by decide) y1.1) ?_
      refine clc_X1_151 X K (isSy_nn y1) rfl h (Nat.le_of_ble_eq_true rfl) dX1_encode_345 ⟨hkn.1, hkn.2⟩ (fun r11 σ10 h => ?_)
      refine clc_X1_154 X K rfl h (Nat.le_of_ble_eq_true rfl) dX1_encode_348 ⟨hkn.1, hkn.2⟩ (fun σ12 h => ?_)
      refine z_aload_n X 1 dX1_encode_351 rfl ?_
      refine z_aload_nR (ad := ad) X 2 dX1_encode_352 rfl (Int.le_trans (by decide) y1.1) ?_
      refine z_iload X 3 dX1_encode_353 rfl ?_
      refine z_iload X 0 dX1_encode_355 rfl ?_
      refine clc_X1_158 X K rfl h (Nat.le_of_ble_eq_true rfl) dX1_encode_357 ⟨hkn.1, hkn.2⟩ (fun σ13 h => ?_)
      refine z_iincK X K 3 (lv' := [(4, .int (iz (v4 + 1))), (5, .int (iz r9)), (0, .ref (ad 0)), (3, zval ad 1 v3)]) dX1_encode_360 rfl rfl (by simp [zval_cat1]) ?_
      refine z_goto (tgt := 320) X dX1_encode_363 rfl ?_
      exact z_sub [2, 3, 0] rfl (hC320 _ _ _ _ _ _ h)
set_option maxRecDepth 100000 in
theorem wkd_X1_encode_285 {Γ : ZG} {l : Launch} {D : va_G} {ds : Nat → ClassId} {ad : Nat → Nat} {δ : Nat × Nat} {mc ms : Nat} {post : Int → ZS → ZDy → Prop} (X : ZX Γ cX1_encode RX1 12 314) (K : ZCap Γ l (ΘC D ds ad) 6 mc ms) (E : ZDe Γ (ds 5) δ) (hR : ZDretI Γ cX1_encode .int mc ms (fun r σ xs => ∃ d : ZDy, xs = dyW (ds 5) δ (ad 75) (ad 76) d ∧ post r σ d)) : ∀ (N : Nat) (v3 : Int) (v4 : Int) (k : Nat) (n : Nat) (d : ZDy) (σ : ZS), zfix (wbd_X1_encode_285 mc ms post) N (v3, v4, k, n, d, σ) → Z Γ k n σ (dyW (ds 5) δ (ad 75) (ad 76) d) 285 [(0, .ref (ad 0)), (3, zval ad 1 v3), (4, .int (iz v4))] [] := by
  intro N
  induction N with
  | zero => intro v3 v4 k n d σ h; exact False.elim h
  | succ N ih =>
    intro v3 v4 k n d σ h
    have h : wbd_X1_encode_285 mc ms post (zfix (wbd_X1_encode_285 mc ms post) N) (v3, v4, k, n, d, σ) := h
    have hC285 := ih
    clear ih
    generalize zfix (wbd_X1_encode_285 mc ms post) N = C285 at h hC285
    dsimp only [wbd_X1_encode_285] at h
    obtain ⟨hkn, h⟩ := h
    refine z_iload X 2 dX1_encode_285 rfl ?_
    obtain ⟨y1, h⟩ := h
    refine z_aload_nR (ad := ad) X 1 dX1_encode_287 rfl (Int.le_trans (by decide) y1.1) ?_
    refine gC_X1_107_X5 X K (isSy_nn y1) dX1_encode_288 ?_
    obtain ⟨i2, h⟩ := h
    obtain ⟨i3, h⟩ := h
    refine z_icmp_ge X 317 dX1_encode_291 rfl i2 i3 (fun c4 => ?_) (fun c4 => ?_)
    · have h := h.1 c4
      refine z_iconst X 0 dX1_encode_317 ?_
      refine z_istoreK X K (lv' := [(4, .int (iz 0)), (0, .ref (ad 0)), (3, zval ad 1 v3)]) dX1_encode_318 rfl (by simp [zval_cat1]) ?_
      obtain ⟨N, h⟩ := h
      exact z_sub [1, 2, 0] rfl (wkd_X1_encode_320 X K E hR N _ _ _ _ _ _ h)
    · have h := h.2 c4
      refine z_aload_n X 0 dX1_encode_294 rfl ?_
      refine gC_X1_59_X1 X K dX1_encode_295 ?_
      refine z_iload X 2 dX1_encode_298 rfl ?_
      refine z_aload_n X 0 dX1_encode_300 rfl ?_
      refine gC_X1_36_X1 X K dX1_encode_301 ?_
      refine gC_X1_141_X4 X K (Or.inr rfl) dX1_encode_304 ?_
      refine z_iload X 2 dX1_encode_307 rfl ?_
      obtain ⟨x5, h⟩ := h
      refine z_ald' X K 49 (Nat.le_of_ble_eq_true rfl) rfl rfl (Nat.le_of_ble_eq_true rfl) dX1_encode_309 x5 ?_
      refine z_ast' X K 74 (Nat.le_of_ble_eq_true rfl) rfl rfl (Nat.le_of_ble_eq_true rfl) dX1_encode_310 x5 (fun σ6 eσ6 => ?_)
      have h := h σ6 eσ6
      refine z_iincK X K 2 (lv' := [(4, .int (iz (v4 + 1))), (0, .ref (ad 0)), (3, zval ad 1 v3)]) dX1_encode_311 rfl rfl (by simp [zval_cat1]) ?_
      refine z_goto (tgt := 285) X dX1_encode_314 rfl ?_
      exact z_sub [1, 2, 0] rfl (hC285 _ _ _ _ _ _ h)
set_option maxRecDepth 100000 in
theorem wkd_X1_encode_238 {Γ : ZG} {l : Launch} {D : va_G} {ds : Nat → ClassId} {ad : Nat → Nat} {δ : Nat × Nat} {mc ms : Nat} {post : Int → ZS → ZDy → Prop} (X : ZX Γ cX1_encode RX1 12 314) (K : ZCap Γ l (ΘC D ds ad) 6 mc ms) (E : ZDe Γ (ds 5) δ) (hR : ZDretI Γ cX1_encode .int mc ms (fun r σ xs => ∃ d : ZDy, xs = dyW (ds 5) δ (ad 75) (ad 76) d ∧ post r σ d)) : ∀ (N : Nat) (v3 : Int) (v4 : Int) (k : Nat) (n : Nat) (d : ZDy) (σ : ZS), zfix (wbd_X1_encode_238 mc ms post) N (v3, v4, k, n, d, σ) → Z Γ k n σ (dyW (ds 5) δ (ad 75) (ad 76) d) 238 [(0, .ref (ad 0)), (3, zval ad 1 v3), (4, .int (iz v4))] [] := by
  intro N
  induction N with
  | zero => intro v3 v4 k n d σ h; exact False.elim h
  | succ N ih =>
    intro v3 v4 k n d σ h
    have h : wbd_X1_encode_238 mc ms post (zfix (wbd_X1_encode_238 mc ms post) N) (v3, v4, k, n, d, σ) := h
    have hC238 := ih
    clear ih
    generalize zfix (wbd_X1_encode_238 mc ms post) N = C238 at h hC238
    dsimp only [wbd_X1_encode_238] at h
    obtain ⟨hkn, h⟩ := h
    refine z_iload X 2 dX1_encode_238 rfl ?_
    refine z_aload_n X 0 dX1_encode_240 rfl ?_
    refine gC_X1_91_X1 X K dX1_encode_241 ?_
    refine gC_X1_131_X12 X K dX1_encode_244 ?_
    refine z_dySize1 q906 X K rfl (Nat.le_of_ble_eq_true rfl) dX1_encode_247 (⟨hkn.1, hkn.2⟩) ?_
    obtain ⟨i1, h⟩ := h
    obtain ⟨i2, h⟩ := h
    refine z_icmp_ge X 282 dX1_encode_250 rfl i1 i2 (fun c3 => ?_) (fun c3 => ?_)
    · have h := h.1 c3
      refine z_iconst X 0 dX1_encode_282 ?_
      refine z_istoreK X K (lv' := [(4, .int (iz 0)), (0, .ref (ad 0)), (3, zval ad 1 v3)]) dX1_encode_283 rfl (by simp [zval_cat1]) ?_
      obtain ⟨N, h⟩ := h
      exact z_sub [1, 2, 0] rfl (wkd_X1_encode_285 X K E hR N _ _ _ _ _ _ h)
    · have h := h.2 c3
      refine z_aload_n X 0 dX1_encode_253 rfl ?_
      refine gC_X1_64_X1 X K dX1_encode_254 ?_
      refine z_aload_n X 0 dX1_encode_257 rfl ?_
      refine gC_X1_91_X1 X K dX1_encode_258 ?_
      refine gC_X1_131_X12 X K dX1_encode_261 ?_
      refine z_iload X 2 dX1_encode_264 rfl ?_
      obtain ⟨g5, h⟩ := h
      obtain ⟨g6, h⟩ := h
      refine z_dyGet1 q907 X K rfl (Nat.le_of_ble_eq_true rfl) dX1_encode_266 g5 g6 (⟨hkn.1, hkn.2⟩) (fun a4 ea4 => ?_)
      have h := h a4 ea4
      obtain ⟨g7, h⟩ := h
      refine z_stCast q908 X K dX1_encode_269 g7 ?_
      obtain ⟨g8, h⟩ := h
      obtain ⟨g9, h⟩ := h
      obtain ⟨hk10, h⟩ := h
      refine z_dyAdd2 q370 X K E rfl (Nat.le_of_ble_eq_true rfl) dX1_encode_272 g8 g9 hk10 (fun y11 ey11 => ?_)
      have h := h y11 _ ey11 rfl
      generalize (d.1, y11, d.2.2.1, d.2.2.2) = d12 at h ⊢
      refine z_pop X dX1_encode_275 rfl ?_
      refine z_iincK X K 2 (lv' := [(4, .int (iz (v4 + 1))), (0, .ref (ad 0)), (3, zval ad 1 v3)]) dX1_encode_276 rfl rfl (by simp [zval_cat1]) ?_
      refine z_goto (tgt := 238) X dX1_encode_279 rfl ?_
      exact z_sub [1, 2, 0] rfl (hC238 _ _ _ _ _ _ h)
set_option maxRecDepth 100000 in
theorem wkd_X1_encode_225 {Γ : ZG} {l : Launch} {D : va_G} {ds : Nat → ClassId} {ad : Nat → Nat} {δ : Nat × Nat} {mc ms : Nat} {post : Int → ZS → ZDy → Prop} (X : ZX Γ cX1_encode RX1 12 314) (K : ZCap Γ l (ΘC D ds ad) 6 mc ms) (E : ZDe Γ (ds 5) δ) (hR : ZDretI Γ cX1_encode .int mc ms (fun r σ xs => ∃ d : ZDy, xs = dyW (ds 5) δ (ad 75) (ad 76) d ∧ post r σ d)) (v3 : Int) (t0 : Int) (k : Nat) (n : Nat) (d : ZDy) (σ : ZS) (h : wd_X1_encode_225 mc ms post v3 t0 k n d σ) : Z Γ k n σ (dyW (ds 5) δ (ad 75) (ad 76) d) 225 [(0, .ref (ad 0)), (3, zval ad 1 v3)] [.int (iz t0), .ref (ad 0)] := by
  obtain ⟨hkn, h⟩ := h
  refine pC_X1_125_X1 X K dX1_encode_225 (fun σ1 eσ1 => ?_)
  have h := h σ1 eσ1
  refine z_aload_n X 0 dX1_encode_228 rfl ?_
  refine gC_X1_64_X1 X K dX1_encode_229 ?_
  obtain ⟨g2, h⟩ := h
  refine z_dyClr2 q905 X K E rfl (Nat.le_of_ble_eq_true rfl) dX1_encode_232 g2 (⟨hkn.1, hkn.2⟩) (fun d3 ed3 => ?_)
  have h := h d3 ed3
  refine z_iconst X 0 dX1_encode_235 ?_
  refine z_istoreK X K (lv' := [(4, .int (iz 0)), (0, .ref (ad 0)), (3, zval ad 1 v3)]) dX1_encode_236 rfl (by simp [zval_cat1]) ?_
  obtain ⟨N, h⟩ := h
  exact z_sub [1, 2, 0] rfl (wkd_X1_encode_238 X K E hR N _ _ _ _ _ _ h)
set_option maxRecDepth 100000 in
theorem wkd_X1_encode_139 {Γ : ZG} {l : Launch} {D : va_G} {ds : Nat → ClassId} {ad : Nat → Nat} {δ : Nat × Nat} {mc ms : Nat} {post : Int → ZS → ZDy → Prop} (X : ZX Γ cX1_encode RX1 12 314) (K : ZCap Γ l (ΘC D ds ad) 6 mc ms) (E : ZDe Γ (ds 5) δ) (hR : ZDretI Γ cX1_encode .int mc ms (fun r σ xs => ∃ d : ZDy, xs = dyW (ds 5) δ (ad 75) (ad 76) d ∧ post r σ d)) {C47 : Int × Int × Int × Nat × Nat × ZDy × ZS → Prop} (hC47 : ∀ (v1 : Int) (v3 : Int) (v4 : Int) (k : Nat) (n : Nat) (d : ZDy) (σ : ZS), C47 (v1, v3, v4, k, n, d, σ) → Z Γ k n σ (dyW (ds 5) δ (ad 75) (ad 76) d) 47 [(0, .ref (ad 0)), (1, .int (iz v1)), (3, zval ad 1 v3), (4, .int (iz v4))] []) (v1 : Int) (v3 : Int) (v4 : Int) (k : Nat) (n : Nat) (d : ZDy) (σ : ZS) (h : wd_X1_encode_139 mc ms C47 post v1 v3 v4 k n d σ) : Z Γ k n σ (dyW (ds 5) δ (ad 75) (ad 76) d) 139 [(0, .ref (ad 0)), (1, .int (iz v1)), (3, zval ad 1 v3), (4, .int (iz v4))] [] := by
  obtain ⟨hkn, h⟩ := h
  refine z_aload_n X 0 dX1_encode_139 rfl ?_
  refine gC_X1_91_X1 X K dX1_encode_140 ?_
  refine z_aload_n X 0 dX1_encode_143 rfl ?_
  refine gC_X1_11_X1 X K dX1_encode_144 ?_
  refine z_iload X 3 dX1_encode_147 rfl ?_
  obtain ⟨x1, h⟩ := h
  refine aC_symbols X K dX1_encode_149 x1 ?_
  refine gC_X1_107_X5 X K (isSy_ix x1) dX1_encode_150 ?_
  refine clc_X1_110 X K rfl h (Nat.le_of_ble_eq_true rfl) dX1_encode_153 ⟨hkn.1, hkn.2⟩ (fun r3 σ2 h => ?_)
  obtain ⟨b3, h⟩ := h
  have h := h b3
  refine z_if_eq X 167 dX1_encode_156 rfl (InR_b b3) (fun c4 => ?_) (fun c4 => ?_)
  · have h := h.1 c4
    refine z_iincK X K 3 (lv' := [(4, .int (iz (v4 + 1))), (0, .ref (ad 0)), (1, .int (iz v1)), (3, zval ad 1 v3)]) dX1_encode_167 rfl rfl (by simp [zval_cat1]) ?_
    refine z_goto (tgt := 47) X dX1_encode_170 rfl ?_
    exact z_sub [1, 2, 3, 0] rfl (hC47 _ _ _ _ _ _ _ h)
  · have h := h.2 c4
    refine z_aload_n X 0 dX1_encode_159 rfl ?_
    refine gC_X1_11_X1 X K dX1_encode_160 ?_
    refine z_iload X 3 dX1_encode_163 rfl ?_
    refine aC_symbols X K dX1_encode_165 x1 ?_
    refine z_astore_nq (ad := ad) (x := ((2 + v4.toNat : Nat) : Int)) X K (lv' := [(3, zval ad 1 ((2 + v4.toNat : Nat) : Int)), (0, .ref (ad 0)), (1, .int (iz v1)), (4, .int (iz v4))]) dX1_encode_166 rfl rfl rfl ?_
    refine z_iincK X K 3 (lv' := [(4, .int (iz (v4 + 1))), (3, zval ad 1 ((2 + v4.toNat : Nat) : Int)), (0, .ref (ad 0)), (1, .int (iz v1))]) dX1_encode_167 rfl rfl (by simp [zval_cat1]) ?_
    refine z_goto (tgt := 47) X dX1_encode_170 rfl ?_
    exact z_sub [2, 3, 1, 0] rfl (hC47 _ _ _ _ _ _ _ h)
set_option maxRecDepth 100000 in
theorem wkd_X1_encode_111 {Γ : ZG} {l : Launch} {D : va_G} {ds : Nat → ClassId} {ad : Nat → Nat} {δ : Nat × Nat} {mc ms : Nat} {post : Int → ZS → ZDy → Prop} (X : ZX Γ cX1_encode RX1 12 314) (K : ZCap Γ l (ΘC D ds ad) 6 mc ms) (E : ZDe Γ (ds 5) δ) (hR : ZDretI Γ cX1_encode .int mc ms (fun r σ xs => ∃ d : ZDy, xs = dyW (ds 5) δ (ad 75) (ad 76) d ∧ post r σ d)) {C47 : Int × Int × Int × Nat × Nat × ZDy × ZS → Prop} (hC47 : ∀ (v1 : Int) (v3 : Int) (v4 : Int) (k : Nat) (n : Nat) (d : ZDy) (σ : ZS), C47 (v1, v3, v4, k, n, d, σ) → Z Γ k n σ (dyW (ds 5) δ (ad 75) (ad 76) d) 47 [(0, .ref (ad 0)), (1, .int (iz v1)), (3, zval ad 1 v3), (4, .int (iz v4))] []) (v1 : Int) (v3 : Int) (v4 : Int) (t0 : Int) (k : Nat) (n : Nat) (d : ZDy) (σ : ZS) (h : wd_X1_encode_111 mc ms C47 post v1 v3 v4 t0 k n d σ) : Z Γ k n σ (dyW (ds 5) δ (ad 75) (ad 76) d) 111 [(0, .ref (ad 0)), (1, .int (iz v1)), (3, zval ad 1 v3), (4, .int (iz v4))] [.int (iz t0)] := by
  obtain ⟨hkn, h⟩ := h
  refine z_istoreK X K (lv' := [(5, .int (iz t0)), (0, .ref (ad 0)), (1, .int (iz v1)), (3, zval ad 1 v3), (4, .int (iz v4))]) dX1_encode_111 rfl rfl ?_
  refine z_iload X 0 dX1_encode_113 rfl ?_
  obtain ⟨i1, h⟩ := h
  refine z_if_eq X 167 dX1_encode_115 rfl i1 (fun c2 => ?_) (fun c2 => ?_)
  · have h := h.1 c2
    refine z_iincK X K 4 (lv' := [(4, .int (iz (v4 + 1))), (5, .int (iz t0)), (0, .ref (ad 0)), (1, .int (iz v1)), (3, zval ad 1 v3)]) dX1_encode_167 rfl rfl (by simp [zval_cat1]) ?_
    refine z_goto (tgt := 47) X dX1_encode_170 rfl ?_
    exact z_sub [2, 3, 4, 0] rfl (hC47 _ _ _ _ _ _ _ h)
  · have h := h.2 c2
    refine z_aload_nQ (ad := ad) X 3 dX1_encode_118 rfl ?_
    refine z_ifnullQ X 139 dX1_encode_119 rfl (fun c3 => ?_) (fun c3 => ?_)
    · have h := h.1 c3
      exact z_sub [1, 2, 3, 4] rfl (wkd_X1_encode_139 X K E hR hC47 _ _ _ _ _ _ _ h)
    · have h := h.2 c3
      refine z_aload_n X 1 dX1_encode_122 rfl ?_
      refine gC_X1_11_X1 X K dX1_encode_123 ?_
      refine z_iload X 4 dX1_encode_126 rfl ?_
      obtain ⟨x4, h⟩ := h
      refine aC_symbols X K dX1_encode_128 x4 ?_
      refine gC_X1_107_X5 X K (isSy_ix x4) dX1_encode_129 ?_
      obtain ⟨y5, h⟩ := h
      refine z_aload_nR (ad := ad) X 3 dX1_encode_132 rfl (Int.le_trans (by decide) y5.1) ?_
      refine gC_X1_107_X5 X K (isSy_nn y5) dX1_encode_133 ?_
      obtain ⟨i6, h⟩ := h
      obtain ⟨i7, h⟩ := h
      refine z_icmp_ge X 167 dX1_encode_136 rfl i6 i7 (fun c8 => ?_) (fun c8 => ?_)
      · have h := h.1 c8
        refine z_iincK X K 4 (lv' := [(4, .int (iz (v4 + 1))), (5, .int (iz t0)), (0, .ref (ad 0)), (1, .int (iz v1)), (3, zval ad 1 v3)]) dX1_encode_167 rfl rfl (by simp [zval_cat1]) ?_
        refine z_goto (tgt := 47) X dX1_encode_170 rfl ?_
        exact z_sub [2, 3, 4, 0] rfl (hC47 _ _ _ _ _ _ _ h)
      · have h := h.2 c8
        exact z_sub [1, 2, 3, 4] rfl (wkd_X1_encode_139 X K E hR hC47 _ _ _ _ _ _ _ h)
set_option maxRecDepth 100000 in
theorem wkd_X1_encode_103 {Γ : ZG} {l : Launch} {D : va_G} {ds : Nat → ClassId} {ad : Nat → Nat} {δ : Nat × Nat} {mc ms : Nat} {post : Int → ZS → ZDy → Prop} (X : ZX Γ cX1_encode RX1 12 314) (K : ZCap Γ l (ΘC D ds ad) 6 mc ms) (E : ZDe Γ (ds 5) δ) (hR : ZDretI Γ cX1_encode .int mc ms (fun r σ xs => ∃ d : ZDy, xs = dyW (ds 5) δ (ad 75) (ad 76) d ∧ post r σ d)) {C47 : Int × Int × Int × Nat × Nat × ZDy × ZS → Prop} (hC47 : ∀ (v1 : Int) (v3 : Int) (v4 : Int) (k : Nat) (n : Nat) (d : ZDy) (σ : ZS), C47 (v1, v3, v4, k, n, d, σ) → Z Γ k n σ (dyW (ds 5) δ (ad 75) (ad 76) d) 47 [(0, .ref (ad 0)), (1, .int (iz v1)), (3, zval ad 1 v3), (4, .int (iz v4))] []) (v1 : Int) (v3 : Int) (v4 : Int) (t0 : Int) (t1 : Int) (k : Nat) (n : Nat) (d : ZDy) (σ : ZS) (h : wd_X1_encode_103 mc ms C47 post v1 v3 v4 t0 t1 k n d σ) : Z Γ k n σ (dyW (ds 5) δ (ad 75) (ad 76) d) 103 [(0, .ref (ad 0)), (1, .int (iz v1)), (3, zval ad 1 v3), (4, .int (iz v4))] [.int (iz t0), .int (iz t1)] := by
  obtain ⟨hkn, h⟩ := h
  obtain ⟨i1, h⟩ := h
  obtain ⟨i2, h⟩ := h
  refine z_icmp_ne X 110 dX1_encode_103 rfl i1 i2 (fun c3 => ?_) (fun c3 => ?_)
  · have h := h.1 c3
    refine z_iconst X 0 dX1_encode_110 ?_
    exact z_sub [0, 1, 2, 3] rfl (wkd_X1_encode_111 X K E hR hC47 _ _ _ _ _ _ _ _ h)
  · have h := h.2 c3
    refine z_iconst X 1 dX1_encode_106 ?_
    refine z_goto (tgt := 111) X dX1_encode_107 rfl ?_
    exact z_sub [0, 1, 2, 3] rfl (wkd_X1_encode_111 X K E hR hC47 _ _ _ _ _ _ _ _ h)
set_option maxRecDepth 100000 in
theorem wkd_X1_encode_94 {Γ : ZG} {l : Launch} {D : va_G} {ds : Nat → ClassId} {ad : Nat → Nat} {δ : Nat × Nat} {mc ms : Nat} {post : Int → ZS → ZDy → Prop} (X : ZX Γ cX1_encode RX1 12 314) (K : ZCap Γ l (ΘC D ds ad) 6 mc ms) (E : ZDe Γ (ds 5) δ) (hR : ZDretI Γ cX1_encode .int mc ms (fun r σ xs => ∃ d : ZDy, xs = dyW (ds 5) δ (ad 75) (ad 76) d ∧ post r σ d)) {C47 : Int × Int × Int × Nat × Nat × ZDy × ZS → Prop} (hC47 : ∀ (v1 : Int) (v3 : Int) (v4 : Int) (k : Nat) (n : Nat) (d : ZDy) (σ : ZS), C47 (v1, v3, v4, k, n, d, σ) → Z Γ k n σ (dyW (ds 5) δ (ad 75) (ad 76) d) 47 [(0, .ref (ad 0)), (1, .int (iz v1)), (3, zval ad 1 v3), (4, .int (iz v4))] []) (v1 : Int) (v3 : Int) (v4 : Int) (t0 : Int) (k : Nat) (n : Nat) (d : ZDy) (σ : ZS) (h : wd_X1_encode_94 mc ms C47 post v1 v3 v4 t0 k n d σ) : Z Γ k n σ (dyW (ds 5) δ (ad 75) (ad 76) d) 94 [(0, .ref (ad 0)), (1, .int (iz v1)), (3, zval ad 1 v3), (4, .int (iz v4))] [.int (iz t0)] := by
  obtain ⟨hkn, h⟩ := h
  refine z_iload_n X 1 dX1_encode_94 rfl ?_
  obtain ⟨i1, h⟩ := h
  refine z_if_ne X 102 dX1_encode_95 rfl i1 (fun c2 => ?_) (fun c2 => ?_)
  · have h := h.1 c2
    refine z_iconst X 0 dX1_encode_102 ?_
    exact z_sub [0, 1, 2, 3] rfl (wkd_X1_encode_103 X K E hR hC47 _ _ _ _ _ _ _ _ _ h)
  · have h := h.2 c2
    refine z_iconst X 1 dX1_encode_98 ?_
    refine z_goto (tgt := 103) X dX1_encode_99 rfl ?_
    exact z_sub [0, 1, 2, 3] rfl (wkd_X1_encode_103 X K E hR hC47 _ _ _ _ _ _ _ _ _ h)
set_option maxRecDepth 100000 in
theorem wkd_X1_encode_47 {Γ : ZG} {l : Launch} {D : va_G} {ds : Nat → ClassId} {ad : Nat → Nat} {δ : Nat × Nat} {mc ms : Nat} {post : Int → ZS → ZDy → Prop} (X : ZX Γ cX1_encode RX1 12 314) (K : ZCap Γ l (ΘC D ds ad) 6 mc ms) (E : ZDe Γ (ds 5) δ) (hR : ZDretI Γ cX1_encode .int mc ms (fun r σ xs => ∃ d : ZDy, xs = dyW (ds 5) δ (ad 75) (ad 76) d ∧ post r σ d)) : ∀ (N : Nat) (v1 : Int) (v3 : Int) (v4 : Int) (k : Nat) (n : Nat) (d : ZDy) (σ : ZS), zfix (wbd_X1_encode_47 mc ms post) N (v1, v3, v4, k, n, d, σ) → Z Γ k n σ (dyW (ds 5) δ (ad 75) (ad 76) d) 47 [(0, .ref (ad 0)), (1, .int (iz v1)), (3, zval ad 1 v3), (4, .int (iz v4))] [] := by
  intro N
  induction N with
  | zero => intro v1 v3 v4 k n d σ h; exact False.elim h
  | succ N ih =>
    intro v1 v3 v4 k n d σ h
    have h : wbd_X1_encode_47 mc ms post (zfix (wbd_X1_encode_47 mc ms post) N) (v1, v3, v4, k, n, d, σ) := h
    have hC47 := ih
    clear ih
    generalize zfix (wbd_X1_encode_47 mc ms post) N = C47 at h hC47
    dsimp only [wbd_X1_encode_47] at h
    obtain ⟨hkn, h⟩ := h
    refine z_iload X 3 dX1_encode_47 rfl ?_
    refine z_bipush X 30 dX1_encode_49 rfl ?_
    obtain ⟨i1, h⟩ := h
    refine z_icmp_ge X 173 dX1_encode_51 rfl i1 (by decide) (fun c2 => ?_) (fun c2 => ?_)
    · have h := h.1 c2
      refine z_aload_nQ (ad := ad) X 2 dX1_encode_173 rfl ?_
      refine z_ifnonnullQ X 179 dX1_encode_174 rfl (fun c3 => ?_) (fun c3 => ?_)
      · have h := h.1 c3
        refine z_aload_n X 0 dX1_encode_179 rfl ?_
        refine gC_X1_91_X1 X K dX1_encode_180 ?_
        obtain ⟨y4, h⟩ := h
        refine z_aload_nR (ad := ad) X 2 dX1_encode_183 rfl (Int.le_trans (by decide) y4.1) ?_
        refine gC_X1_107_X5 X K (isSy_nn y4) dX1_encode_184 ?_
        refine clc_X1_110 X K rfl h (Nat.le_of_ble_eq_true rfl) dX1_encode_187 ⟨hkn.1, hkn.2⟩ (fun r6 σ5 h => ?_)
        obtain ⟨b6, h⟩ := h
        have h := h b6
        refine z_pop X dX1_encode_190 rfl ?_
        refine z_aload_n X 0 dX1_encode_191 rfl ?_
        refine gC_X1_91_X1 X K dX1_encode_192 ?_
        obtain ⟨mc7, ms8, hk9, h⟩ := h
        refine zd_VV (C := RX12) (q0 := 65) X K E (mtd_X12_write l D ds ad δ mc7 ms8 σ5 d _ h) (Nat.le_of_ble_eq_true rfl) rfl rfl rfl (lw_V q707 q708 q709 q126 q710) ⟨rfl, by decide, by decide, rfl⟩ ⟨(Nat.le_of_ble_eq_true rfl), (Nat.le_of_ble_eq_true rfl)⟩ hk9 (Nat.le_of_ble_eq_true rfl) dX1_encode_195 rfl (fun σ11 xsx hh => ?_)
        obtain ⟨d10, rfl, h⟩ := hh
        refine z_aload_n X 0 dX1_encode_198 rfl ?_
        refine z_aload_n X 0 dX1_encode_199 rfl ?_
        refine gC_X1_91_X1 X K dX1_encode_200 ?_
        refine gC_X1_117_X12 X K dX1_encode_203 ?_
        refine pC_X1_120_X1 X K dX1_encode_206 (fun σ12 eσ12 => ?_)
        have h := h σ12 eσ12
        refine z_aload_n X 0 dX1_encode_209 rfl ?_
        refine z_aload_n X 0 dX1_encode_210 rfl ?_
        refine gC_X1_91_X1 X K dX1_encode_211 ?_
        refine gC_X1_121_X12 X K dX1_encode_214 ?_
        obtain ⟨i13, h⟩ := h
        refine z_if_eq X 224 dX1_encode_217 rfl i13 (fun c14 => ?_) (fun c14 => ?_)
        · have h := h.1 c14
          refine z_iconst X 0 dX1_encode_224 ?_
          exact z_sub [0, 2] rfl (wkd_X1_encode_225 X K E hR _ _ _ _ _ _ h)
        · have h := h.2 c14
          refine z_iconst X 1 dX1_encode_220 ?_
          refine z_goto (tgt := 225) X dX1_encode_221 rfl ?_
          exact z_sub [0, 2] rfl (wkd_X1_encode_225 X K E hR _ _ _ _ _ _ h)
      · have h := h.2 c3
        refine z_iconst X (-1) dX1_encode_177 ?_
        exact hR _ _ _ _ _ _ _ dX1_encode_178 rfl hkn.1 hkn.2 ⟨_, rfl, h⟩
    · have h := h.2 c2
      refine z_iload_n X 1 dX1_encode_54 rfl ?_
      refine z_bipush X 100 dX1_encode_55 rfl ?_
      obtain ⟨i15, h⟩ := h
      refine z_icmp_lt X 77 dX1_encode_57 rfl i15 (by decide) (fun c16 => ?_) (fun c16 => ?_)
      · have h := h.1 c16
        refine z_iload_n X 1 dX1_encode_77 rfl ?_
        refine z_iconst X 2 dX1_encode_78 ?_
        refine z_icmp_eq X 106 dX1_encode_79 rfl i15 (by decide) (fun c17 => ?_) (fun c17 => ?_)
        · have h := h.1 c17
          refine z_iconst X 1 dX1_encode_106 ?_
          refine z_goto (tgt := 111) X dX1_encode_107 rfl ?_
          exact z_sub [0, 1, 2, 3] rfl (wkd_X1_encode_111 X K E hR hC47 _ _ _ _ _ _ _ _ h)
        · have h := h.2 c17
          refine z_iload X 3 dX1_encode_82 rfl ?_
          refine z_bipush X 24 dX1_encode_84 rfl ?_
          refine z_icmp_ge X 93 dX1_encode_86 rfl i1 (by decide) (fun c18 => ?_) (fun c18 => ?_)
          · have h := h.1 c18
            refine z_iconst X 0 dX1_encode_93 ?_
            exact z_sub [0, 1, 2, 3] rfl (wkd_X1_encode_94 X K E hR hC47 _ _ _ _ _ _ _ _ h)
          · have h := h.2 c18
            refine z_iconst X 1 dX1_encode_89 ?_
            refine z_goto (tgt := 94) X dX1_encode_90 rfl ?_
            exact z_sub [0, 1, 2, 3] rfl (wkd_X1_encode_94 X K E hR hC47 _ _ _ _ _ _ _ _ h)
      · have h := h.2 c16
        refine z_iload X 3 dX1_encode_60 rfl ?_
        refine z_iload_n X 1 dX1_encode_62 rfl ?_
        refine z_bipush X 100 dX1_encode_63 rfl ?_
        refine z_isub X dX1_encode_65 ?_
        obtain ⟨i19, h⟩ := h
        refine z_icmp_ne X 73 dX1_encode_66 rfl i1 i19 (fun c20 => ?_) (fun c20 => ?_)
        · have h := h.1 c20
          refine z_iconst X 0 dX1_encode_73 ?_
          refine z_goto (tgt := 111) X dX1_encode_74 rfl ?_
          exact z_sub [0, 1, 2, 3] rfl (wkd_X1_encode_111 X K E hR hC47 _ _ _ _ _ _ _ _ h)
        · have h := h.2 c20
          refine z_iconst X 1 dX1_encode_69 ?_
          refine z_goto (tgt := 111) X dX1_encode_70 rfl ?_
          exact z_sub [0, 1, 2, 3] rfl (wkd_X1_encode_111 X K E hR hC47 _ _ _ _ _ _ _ _ h)
set_option maxRecDepth 100000 in
theorem wkd_X1_encode_20 {Γ : ZG} {l : Launch} {D : va_G} {ds : Nat → ClassId} {ad : Nat → Nat} {δ : Nat × Nat} {mc ms : Nat} {post : Int → ZS → ZDy → Prop} (X : ZX Γ cX1_encode RX1 12 314) (K : ZCap Γ l (ΘC D ds ad) 6 mc ms) (E : ZDe Γ (ds 5) δ) (hR : ZDretI Γ cX1_encode .int mc ms (fun r σ xs => ∃ d : ZDy, xs = dyW (ds 5) δ (ad 75) (ad 76) d ∧ post r σ d)) (v1 : Int) (v2 : Int) (k : Nat) (n : Nat) (d : ZDy) (σ : ZS) (h : wd_X1_encode_20 mc ms post v1 v2 k n d σ) : Z Γ k n σ (dyW (ds 5) δ (ad 75) (ad 76) d) 20 [(0, .ref (ad 0)), (1, .int (iz v1)), (2, .int (iz v2))] [] := by
  obtain ⟨hkn, h⟩ := h
  refine z_iload_n X 1 dX1_encode_20 rfl ?_
  refine z_sipush X 130 dX1_encode_21 rfl ?_
  obtain ⟨i1, h⟩ := h
  refine z_icmp_lt X 30 dX1_encode_24 rfl i1 (by decide) (fun c2 => ?_) (fun c2 => ?_)
  · have h := h.1 c2
    refine z_aload_n X 0 dX1_encode_30 rfl ?_
    refine gC_X1_91_X1 X K dX1_encode_31 ?_
    refine z_aload_n X 0 dX1_encode_34 rfl ?_
    refine gC_X1_48_X1 X K dX1_encode_35 ?_
    refine z_iload_n X 2 dX1_encode_38 rfl ?_
    refine clc_X1_103 X K rfl h (Nat.le_of_ble_eq_true rfl) dX1_encode_39 ⟨hkn.1, hkn.2⟩ (fun σ3 h => ?_)
    refine z_null X dX1_encode_42 ?_
    refine z_astore_n0 (ad := ad) (x := -1) X K (lv' := [(3, zval ad 1 (-1)), (0, .ref (ad 0)), (1, .int (iz v1)), (2, .int (iz v2))]) dX1_encode_43 (by decide) rfl rfl ?_
    refine z_iconst X 0 dX1_encode_44 ?_
    refine z_istoreK X K (lv' := [(4, .int (iz 0)), (3, zval ad 1 (-1)), (0, .ref (ad 0)), (1, .int (iz v1)), (2, .int (iz v2))]) dX1_encode_45 rfl (by simp [zval_cat1]) ?_
    obtain ⟨N, h⟩ := h
    exact z_sub [2, 3, 1, 0] rfl (wkd_X1_encode_47 X K E hR N _ _ _ _ _ _ _ h)
  · have h := h.2 c2
    refine z_bipush X (-2) dX1_encode_27 rfl ?_
    exact hR _ _ _ _ _ _ _ dX1_encode_29 rfl hkn.1 hkn.2 ⟨_, rfl, h⟩
set_option maxRecDepth 100000 in
theorem mtd_X1_encode (l : Launch) (D : va_G) (ds : Nat → ClassId) (ad : Nat → Nat) (δ : Nat × Nat) (a0 : Int) (mc : Nat) (ms : Nat) (σ : ZS) (d : ZDy) (post : Int → ZS → ZDy → Prop) (h : wd_X1_encode a0 mc ms σ d post) : ZDI l (ΘC D ds ad) (ds 5) δ yX1_encode cX1_encode 6 .int 12 314 mc ms [.ref (ad 0), .int (iz a0)] σ (dyW (ds 5) δ (ad 75) (ad 76) d) (fun r σ xs => ∃ d : ZDy, xs = dyW (ds 5) δ (ad 75) (ad 76) d ∧ post r σ d) := by
  refine ZDI.of (by decide) (Nat.le_of_ble_eq_true rfl) (fun Γ X K E hR => ?_)
  have X : ZX Γ cX1_encode RX1 12 314 := X
  refine z_sub [0, 1] (lv' := [(0, .ref (ad 0)), (1, .int (iz a0))]) rfl ?_
  refine z_aload_n X 0 dX1_encode_0 rfl ?_
  refine clc_X1_99 X K rfl h (Nat.le_of_ble_eq_true rfl) dX1_encode_1 ⟨(⟨Nat.zero_le _, Nat.zero_le _⟩ : 0 ≤ mc ∧ 0 ≤ ms).1, (⟨Nat.zero_le _, Nat.zero_le _⟩ : 0 ≤ mc ∧ 0 ≤ ms).2⟩ (fun r2 σ1 h => ?_)
  refine z_istore_nK X K (lv' := [(2, .int (iz r2)), (0, .ref (ad 0)), (1, .int (iz a0))]) dX1_encode_4 rfl rfl ?_
  refine z_iload_n X 2 dX1_encode_5 rfl ?_
  obtain ⟨i3, h⟩ := h
  refine z_if_lt X 27 dX1_encode_6 rfl i3 (fun c4 => ?_) (fun c4 => ?_)
  · have h := h.1 c4
    refine z_bipush X (-2) dX1_encode_27 rfl ?_
    exact hR _ _ _ _ _ _ _ dX1_encode_29 rfl (⟨Nat.zero_le _, Nat.zero_le _⟩ : 0 ≤ mc ∧ 0 ≤ ms).1 (⟨Nat.zero_le _, Nat.zero_le _⟩ : 0 ≤ mc ∧ 0 ≤ ms).2 ⟨_, rfl, h⟩
  · have h := h.2 c4
    refine z_iload_n X 2 dX1_encode_9 rfl ?_
    refine z_iconst X 2 dX1_encode_10 ?_
    refine z_icmp_le X 20 dX1_encode_11 rfl i3 (by decide) (fun c5 => ?_) (fun c5 => ?_)
    · have h := h.1 c5
      exact z_sub [1, 2, 0] rfl (wkd_X1_encode_20 X K E hR _ _ _ _ _ _ h)
    · have h := h.2 c5
      refine z_iload_n X 2 dX1_encode_14 rfl ?_
      refine z_bipush X 100 dX1_encode_15 rfl ?_
      refine z_icmp_lt X 27 dX1_encode_17 rfl i3 (by decide) (fun c6 => ?_) (fun c6 => ?_)
      · have h := h.1 c6
        refine z_bipush X (-2) dX1_encode_27 rfl ?_
        exact hR _ _ _ _ _ _ _ dX1_encode_29 rfl (⟨Nat.zero_le _, Nat.zero_le _⟩ : 0 ≤ mc ∧ 0 ≤ ms).1 (⟨Nat.zero_le _, Nat.zero_le _⟩ : 0 ≤ mc ∧ 0 ≤ ms).2 ⟨_, rfl, h⟩
      · have h := h.2 c6
        exact z_sub [1, 2, 0] rfl (wkd_X1_encode_20 X K E hR _ _ _ _ _ _ h)
