/-! the walks of the component's methods (printed by tools/walkgenC.py) -/
/- X5_row -/
set_option maxRecDepth 100000 in
theorem mtc_X5_row (l : Launch) (D : va_G) (ds : Nat → ClassId) (ad : Nat → Nat) (o : Nat) (a0 : Int) (σ : ZS) (post : Int → ZS → Prop) (h : wc_X5_row o a0 σ post) : ZMetI l (ΘC D ds ad) yX5_row cX5_row 2 .int 2 24 0 0 [.ref (ad o), .int (iz a0)] σ post := by
  refine ZMetI.of (by decide) (Nat.le_of_ble_eq_true rfl) (fun Γ X K hR => ?_)
  have X : ZX Γ cX5_row RX5 2 24 := X
  refine z_sub [0, 1] (lv' := [(0, .ref (ad o)), (1, .int (iz a0))]) rfl ?_
  obtain ⟨ho, h⟩ := h
  refine z_iload_n X 1 dX5_row_0 rfl ?_
  refine z_iconst X 2 dX5_row_1 ?_
  refine z_iload_n X 1 dX5_row_2 rfl ?_
  refine z_aload_n X 0 dX5_row_3 rfl ?_
  refine gC_X5_37_X5 X K ho dX5_row_4 ?_
  refine z_aload_n X 0 dX5_row_7 rfl ?_
  refine gC_X5_28_X5 X K ho dX5_row_8 ?_
  obtain ⟨i1, h⟩ := h
  obtain ⟨g2, h⟩ := h
  obtain ⟨i3, h⟩ := h
  obtain ⟨g4, h⟩ := h
  refine z_idiv X dX5_row_11 ⟨i1, i3, g2, g4⟩ ?_
  obtain ⟨i5, h⟩ := h
  obtain ⟨g6, h⟩ := h
  obtain ⟨i7, h⟩ := h
  obtain ⟨g8, h⟩ := h
  refine z_idiv X dX5_row_12 ⟨i5, i7, g6, g8⟩ ?_
  refine z_imul X dX5_row_13 ?_
  refine z_iadd X dX5_row_14 ?_
  refine z_iconst X 1 dX5_row_15 ?_
  refine z_iadd X dX5_row_16 ?_
  exact hR _ _ _ _ _ _ _ dX5_row_17 rfl (Nat.le_refl 0) (Nat.le_refl 0) h
/- X5_column -/
set_option maxRecDepth 100000 in
theorem mtc_X5_column (l : Launch) (D : va_G) (ds : Nat → ClassId) (ad : Nat → Nat) (o : Nat) (a0 : Int) (σ : ZS) (post : Int → ZS → Prop) (h : wc_X5_column o a0 σ post) : ZMetI l (ΘC D ds ad) yX5_column cX5_column 2 .int 2 24 0 0 [.ref (ad o), .int (iz a0)] σ post := by
  refine ZMetI.of (by decide) (Nat.le_of_ble_eq_true rfl) (fun Γ X K hR => ?_)
  have X : ZX Γ cX5_column RX5 2 24 := X
  refine z_sub [0, 1] (lv' := [(0, .ref (ad o)), (1, .int (iz a0))]) rfl ?_
  obtain ⟨ho, h⟩ := h
  refine z_iload_n X 1 dX5_column_0 rfl ?_
  refine z_iconst X 2 dX5_column_1 ?_
  refine z_iload_n X 1 dX5_column_2 rfl ?_
  refine z_aload_n X 0 dX5_column_3 rfl ?_
  refine gC_X5_40_X5 X K ho dX5_column_4 ?_
  refine z_aload_n X 0 dX5_column_7 rfl ?_
  refine gC_X5_34_X5 X K ho dX5_column_8 ?_
  obtain ⟨i1, h⟩ := h
  obtain ⟨g2, h⟩ := h
  obtain ⟨i3, h⟩ := h
  obtain ⟨g4, h⟩ := h
  refine z_idiv X dX5_column_11 ⟨i1, i3, g2, g4⟩ ?_
  obtain ⟨i5, h⟩ := h
  obtain ⟨g6, h⟩ := h
  obtain ⟨i7, h⟩ := h
  obtain ⟨g8, h⟩ := h
  refine z_idiv X dX5_column_12 ⟨i5, i7, g6, g8⟩ ?_
  refine z_imul X dX5_column_13 ?_
  refine z_iadd X dX5_column_14 ?_
  refine z_iconst X 1 dX5_column_15 ?_
  refine z_iadd X dX5_column_16 ?_
  exact hR _ _ _ _ _ _ _ dX5_column_17 rfl (Nat.le_refl 0) (Nat.le_refl 0) h
/- X5_border -/
set_option maxRecDepth 100000 in
theorem mtc_X5_border (l : Launch) (D : va_G) (ds : Nat → ClassId) (ad : Nat → Nat) (o : Nat) (a0 : Int) (a1 : Int) (σ : ZS) (post : Int → ZS → Prop) (h : wc_X5_border o a0 a1 σ post) : ZMetI l (ΘC D ds ad) yX5_border cX5_border 7 .int 2 24 0 0 [.ref (ad o), .int (iz a0), .int (iz a1)] σ post := by
  refine ZMetI.of (by decide) (Nat.le_of_ble_eq_true rfl) (fun Γ X K hR => ?_)
  have X : ZX Γ cX5_border RX5 2 24 := X
  refine z_sub [0, 1, 2] (lv' := [(0, .ref (ad o)), (1, .int (iz a0)), (2, .int (iz a1))]) rfl ?_
  obtain ⟨ho, h⟩ := h
  refine z_aload_n X 0 dX5_border_0 rfl ?_
  refine gC_X5_19_X5 X K ho dX5_border_1 ?_
  refine z_aload_n X 0 dX5_border_4 rfl ?_
  refine gC_X5_28_X5 X K ho dX5_border_5 ?_
  obtain ⟨i1, h⟩ := h
  obtain ⟨g2, h⟩ := h
  obtain ⟨i3, h⟩ := h
  obtain ⟨g4, h⟩ := h
  refine z_idiv X dX5_border_8 ⟨i1, i3, g2, g4⟩ ?_
  refine z_topi (fun v3_5 ev3_5 => ?_)
  have h := h v3_5 ev3_5
  refine z_istore_nK X K (lv' := [(3, .int (iz v3_5)), (0, .ref (ad o)), (1, .int (iz a0)), (2, .int (iz a1))]) dX5_border_9 rfl rfl ?_
  refine z_aload_n X 1 dX5_border_10 rfl ?_
  refine gC_X5_25_X5 X K ho dX5_border_11 ?_
  refine z_aload_n X 1 dX5_border_14 rfl ?_
  refine gC_X5_34_X5 X K ho dX5_border_15 ?_
  obtain ⟨i6, h⟩ := h
  obtain ⟨g7, h⟩ := h
  obtain ⟨i8, h⟩ := h
  obtain ⟨g9, h⟩ := h
  refine z_idiv X dX5_border_18 ⟨i6, i8, g7, g9⟩ ?_
  refine z_topi (fun v4_10 ev4_10 => ?_)
  have h := h v4_10 ev4_10
  refine z_istoreK X K (lv' := [(4, .int (iz v4_10)), (3, .int (iz v3_5)), (0, .ref (ad o)), (1, .int (iz a0)), (2, .int (iz a1))]) dX5_border_19 rfl rfl ?_
  refine z_iload_n X 3 dX5_border_21 rfl ?_
  refine z_iload_n X 1 dX5_border_22 rfl ?_
  obtain ⟨i11, h⟩ := h
  obtain ⟨g12, h⟩ := h
  obtain ⟨i13, h⟩ := h
  obtain ⟨g14, h⟩ := h
  refine z_irem X dX5_border_23 ⟨i11, i13, g12, g14⟩ ?_
  refine z_topi (fun v5_15 ev5_15 => ?_)
  have h := h v5_15 ev5_15
  refine z_istoreK X K (lv' := [(5, .int (iz v5_15)), (4, .int (iz v4_10)), (3, .int (iz v3_5)), (0, .ref (ad o)), (1, .int (iz a0)), (2, .int (iz a1))]) dX5_border_24 rfl rfl ?_
  refine z_iload_n X 5 dX5_border_26 rfl ?_
  refine z_iload X 1 dX5_border_27 rfl ?_
  obtain ⟨i16, h⟩ := h
  obtain ⟨g17, h⟩ := h
  obtain ⟨i18, h⟩ := h
  obtain ⟨g19, h⟩ := h
  refine z_irem X dX5_border_29 ⟨i16, i18, g17, g19⟩ ?_
  refine z_topi (fun v6_20 ev6_20 => ?_)
  have h := h v6_20 ev6_20
  refine z_istoreK X K (lv' := [(6, .int (iz v6_20)), (5, .int (iz v5_15)), (4, .int (iz v4_10)), (3, .int (iz v3_5)), (0, .ref (ad o)), (1, .int (iz a0)), (2, .int (iz a1))]) dX5_border_30 rfl rfl ?_
  refine z_iload X 0 dX5_border_32 rfl ?_
  obtain ⟨i21, h⟩ := h
  refine z_if_eq X 45 dX5_border_34 rfl i21 (fun c22 => ?_) (fun c22 => ?_)
  · have h := h.1 c22
    refine z_iconst X 1 dX5_border_45 ?_
    exact hR _ _ _ _ _ _ _ dX5_border_46 rfl (Nat.le_refl 0) (Nat.le_refl 0) h
  · have h := h.2 c22
    refine z_iload X 1 dX5_border_37 rfl ?_
    refine z_iload_n X 3 dX5_border_39 rfl ?_
    refine z_iconst X 1 dX5_border_40 ?_
    refine z_isub X dX5_border_41 ?_
    obtain ⟨i23, h⟩ := h
    obtain ⟨i24, h⟩ := h
    refine z_icmp_ne X 47 dX5_border_42 rfl i23 i24 (fun c25 => ?_) (fun c25 => ?_)
    · have h := h.1 c25
      refine z_iload X 1 dX5_border_47 rfl ?_
      refine z_if_ne X 59 dX5_border_49 rfl i23 (fun c26 => ?_) (fun c26 => ?_)
      · have h := h.1 c26
        refine z_iload X 0 dX5_border_59 rfl ?_
        refine z_iload X 2 dX5_border_61 rfl ?_
        refine z_iconst X 1 dX5_border_63 ?_
        refine z_isub X dX5_border_64 ?_
        obtain ⟨i27, h⟩ := h
        refine z_icmp_ne X 81 dX5_border_65 rfl i21 i27 (fun c28 => ?_) (fun c28 => ?_)
        · have h := h.1 c28
          refine z_iconst X (-1) dX5_border_81 ?_
          exact hR _ _ _ _ _ _ _ dX5_border_82 rfl (Nat.le_refl 0) (Nat.le_refl 0) h
        · have h := h.2 c28
          refine z_iconst X 1 dX5_border_68 ?_
          refine z_iload_n X 3 dX5_border_69 rfl ?_
          refine z_iconst X 1 dX5_border_70 ?_
          refine z_isub X dX5_border_71 ?_
          refine z_iload X 1 dX5_border_72 rfl ?_
          refine z_isub X dX5_border_74 ?_
          refine z_iconst X 2 dX5_border_75 ?_
          obtain ⟨i29, h⟩ := h
          obtain ⟨g30, h⟩ := h
          refine z_irem X dX5_border_76 ⟨i29, (by decide), g30, (by decide)⟩ ?_
          refine z_isub X dX5_border_77 ?_
          refine z_goto (tgt := 82) X dX5_border_78 rfl ?_
          exact hR _ _ _ _ _ _ _ dX5_border_82 rfl (Nat.le_refl 0) (Nat.le_refl 0) h
      · have h := h.2 c26
        refine z_iconst X 1 dX5_border_52 ?_
        refine z_iload X 0 dX5_border_53 rfl ?_
        refine z_iconst X 2 dX5_border_55 ?_
        obtain ⟨g31, h⟩ := h
        refine z_irem X dX5_border_56 ⟨i21, (by decide), g31, (by decide)⟩ ?_
        refine z_isub X dX5_border_57 ?_
        exact hR _ _ _ _ _ _ _ dX5_border_58 rfl (Nat.le_refl 0) (Nat.le_refl 0) h
    · have h := h.2 c25
      refine z_iconst X 1 dX5_border_45 ?_
      exact hR _ _ _ _ _ _ _ dX5_border_46 rfl (Nat.le_refl 0) (Nat.le_refl 0) h
/- X5_of -/
set_option maxRecDepth 100000 in
theorem mtc_X5_of (l : Launch) (D : va_G) (ds : Nat → ClassId) (ad : Nat → Nat) (o : Nat) (a0 : Int) (σ : ZS) (post : Int → ZS → Prop) (h : wc_X5_of o a0 σ post) : ZMetI l (ΘC D ds ad) yX5_of cX5_of 2 .int 2 24 0 0 [.ref (ad o), .int (iz a0)] σ post := by
  refine ZMetI.of (by decide) (Nat.le_of_ble_eq_true rfl) (fun Γ X K hR => ?_)
  have X : ZX Γ cX5_of RX5 2 24 := X
  refine z_sub [0, 1] (lv' := [(0, .ref (ad o)), (1, .int (iz a0))]) rfl ?_
  obtain ⟨ho, h⟩ := h
  refine z_aload_n X 0 dX5_of_0 rfl ?_
  refine gC_X5_43_X5 X K ho dX5_of_1 ?_
  refine z_iload_n X 1 dX5_of_4 rfl ?_
  refine z_isub X dX5_of_5 ?_
  refine z_aload_n X 0 dX5_of_6 rfl ?_
  refine gC_X5_55_X5 X K ho dX5_of_7 ?_
  refine z_iadd X dX5_of_10 ?_
  refine z_iconst X 1 dX5_of_11 ?_
  refine z_isub X dX5_of_12 ?_
  refine z_aload_n X 0 dX5_of_13 rfl ?_
  refine gC_X5_55_X5 X K ho dX5_of_14 ?_
  obtain ⟨i1, h⟩ := h
  obtain ⟨g2, h⟩ := h
  obtain ⟨i3, h⟩ := h
  obtain ⟨g4, h⟩ := h
  refine z_idiv X dX5_of_17 ⟨i1, i3, g2, g4⟩ ?_
  exact hR _ _ _ _ _ _ _ dX5_of_18 rfl (Nat.le_refl 0) (Nat.le_refl 0) h
/- X5_checksOf -/
set_option maxRecDepth 100000 in
theorem mtc_X5_checksOf (l : Launch) (D : va_G) (ds : Nat → ClassId) (ad : Nat → Nat) (o : Nat) (σ : ZS) (post : Int → ZS → Prop) (h : wc_X5_checksOf o σ post) : ZMetI l (ΘC D ds ad) yX5_checksOf cX5_checksOf 1 .int 2 24 0 0 [.ref (ad o)] σ post := by
  refine ZMetI.of (by decide) (Nat.le_of_ble_eq_true rfl) (fun Γ X K hR => ?_)
  have X : ZX Γ cX5_checksOf RX5 2 24 := X
  refine z_sub [0] (lv' := [(0, .ref (ad o))]) rfl ?_
  obtain ⟨ho, h⟩ := h
  refine z_aload_n X 0 dX5_checksOf_0 rfl ?_
  refine gC_X5_49_X5 X K ho dX5_checksOf_1 ?_
  refine z_aload_n X 0 dX5_checksOf_4 rfl ?_
  refine gC_X5_55_X5 X K ho dX5_checksOf_5 ?_
  obtain ⟨i1, h⟩ := h
  obtain ⟨g2, h⟩ := h
  obtain ⟨i3, h⟩ := h
  obtain ⟨g4, h⟩ := h
  refine z_idiv X dX5_checksOf_8 ⟨i1, i3, g2, g4⟩ ?_
  exact hR _ _ _ _ _ _ _ dX5_checksOf_9 rfl (Nat.le_refl 0) (Nat.le_refl 0) h
/- X2_put -/
set_option maxRecDepth 100000 in
theorem mtc_X2_put (l : Launch) (D : va_G) (ds : Nat → ClassId) (ad : Nat → Nat) (a0 : Int) (a1 : Int) (σ : ZS) (post : ZS → Prop) (h : wc_X2_put a0 a1 σ post) : ZMetV l (ΘC D ds ad) yX2_put cX2_put 3 2 24 0 0 [.ref (ad 32), .int (iz a0), .int (iz a1)] σ post := by
  refine ZMetV.of (by decide) (Nat.le_of_ble_eq_true rfl) (fun Γ X K hR => ?_)
  have X : ZX Γ cX2_put RX2 2 24 := X
  refine z_sub [0, 1, 2] (lv' := [(0, .ref (ad 32)), (1, .int (iz a0)), (2, .int (iz a1))]) rfl ?_
  refine z_aload_n X 0 dX2_put_0 rfl ?_
  refine gC_X2_15_X2 X K dX2_put_1 ?_
  refine z_iload_n X 1 dX2_put_4 rfl ?_
  refine z_aload_n X 0 dX2_put_5 rfl ?_
  refine gC_X2_35_X2 X K dX2_put_6 ?_
  refine z_imul X dX2_put_9 ?_
  refine z_iload_n X 2 dX2_put_10 rfl ?_
  refine z_iadd X dX2_put_11 ?_
  refine z_iconst X 1 dX2_put_12 ?_
  obtain ⟨x1, h⟩ := h
  refine z_astZ' X K 34 (Nat.le_of_ble_eq_true rfl) rfl rfl (Nat.le_of_ble_eq_true rfl) dX2_put_13 x1 (Or.inr rfl) (fun σ2 eσ2 => ?_)
  have h := h σ2 eσ2
  refine z_aload_n X 0 dX2_put_14 rfl ?_
  refine gC_X2_9_X2 X K dX2_put_15 ?_
  refine z_aload_n X 0 dX2_put_18 rfl ?_
  refine gC_X2_38_X2 X K dX2_put_19 ?_
  refine z_iload_n X 1 dX2_put_22 rfl ?_
  refine z_aload_n X 0 dX2_put_23 rfl ?_
  refine gC_X2_35_X2 X K dX2_put_24 ?_
  refine z_imul X dX2_put_27 ?_
  refine z_iload_n X 2 dX2_put_28 rfl ?_
  refine z_iadd X dX2_put_29 ?_
  obtain ⟨x3, h⟩ := h
  refine z_ast' X K 33 (Nat.le_of_ble_eq_true rfl) rfl rfl (Nat.le_of_ble_eq_true rfl) dX2_put_30 x3 (fun σ4 eσ4 => ?_)
  have h := h σ4 eσ4
  refine z_aload_n X 0 dX2_put_31 rfl ?_
  refine z_dup X dX2_put_32 rfl ?_
  refine gC_X2_38_X2 X K dX2_put_33 ?_
  refine z_iconst X 1 dX2_put_36 ?_
  refine z_iadd X dX2_put_37 ?_
  refine pC_X2_38_X2 X K dX2_put_38 (fun σ5 eσ5 => ?_)
  have h := h σ5 eσ5
  exact hR _ _ _ _ _ _ dX2_put_41 (Nat.le_refl 0) (Nat.le_refl 0) h
/- X2_bit -/
theorem clc_X2_56 {Γ : ZG} {cc : ByteArray} {fr lo nL mc0 ms0 k n pc : Nat} {xs : va_W} {lv : List (Nat × Value)} {st : List Value} {l : Launch} {D : va_G} {ds : Nat → ClassId} {ad : Nat → Nat} {a0 : Int} {a1 : Int} {σ : ZS} {post : ZS → Prop} (X : ZX Γ cc RX2 fr lo) (K : ZCap Γ l (ΘC D ds ad) nL mc0 ms0) (hrm : zroom 3 46 fr lo = true) (h : wc_X2_put a0 a1 σ post) (hst : (st.map fun v => v.category).sum ≤ 8) (d : decode cc pc = .ok (.invokevirtual 56, 3)) (hcs : k ≤ mc0 ∧ n ≤ ms0) (kk : ∀ (σ' : ZS), post σ' → Z Γ k n σ' xs (pc + 3) lv (st)) : Z Γ k n σ xs pc lv (.int (iz a1) :: .int (iz a0) :: .ref (ad 32) :: st) := 
  z_callVV' (C := RX2) (q0 := 32) X K (mtc_X2_put l D ds ad a0 a1 σ post h) (Nat.le_of_ble_eq_true rfl) rfl rfl rfl (lw_V q945 q947 qs25 q109 q948) ⟨rfl, by decide, by decide, rfl⟩ (zroom_of (zroom_le hrm (by decide))) ⟨by rw [K.2.2.2.1]; exact hcs.1, by rw [K.2.2.2.2]; exact hcs.2⟩ hst d rfl kk
set_option maxRecDepth 100000 in
theorem wkc_X2_bit_60 {Γ : ZG} {l : Launch} {D : va_G} {ds : Nat → ClassId} {ad : Nat → Nat} {post : ZS → Prop} (X : ZX Γ cX2_bit RX2 3 46) (K : ZCap Γ l (ΘC D ds ad) 5 0 0) (hR : ZRetV Γ cX2_bit 0 0 post) (v3 : Int) (v4 : Int) (σ : ZS) (h : wc_X2_bit_60 post v3 v4 σ) : Z Γ 0 0 σ [] 60 [(0, .ref (ad 32)), (3, .int (iz v3)), (4, .int (iz v4))] [] := by
  refine z_aload_n X 0 dX2_bit_60 rfl ?_
  refine z_iload_n X 1 dX2_bit_61 rfl ?_
  refine z_iload X 2 dX2_bit_62 rfl ?_
  refine clc_X2_56 X K rfl h (Nat.le_of_ble_eq_true rfl) dX2_bit_64 ⟨Nat.zero_le _, Nat.zero_le _⟩ (fun σ1 h => ?_)
  exact hR _ _ _ _ _ _ dX2_bit_67 (Nat.le_refl 0) (Nat.le_refl 0) h
set_option maxRecDepth 100000 in
theorem wkc_X2_bit_32 {Γ : ZG} {l : Launch} {D : va_G} {ds : Nat → ClassId} {ad : Nat → Nat} {post : ZS → Prop} (X : ZX Γ cX2_bit RX2 3 46) (K : ZCap Γ l (ΘC D ds ad) 5 0 0) (hR : ZRetV Γ cX2_bit 0 0 post) (v3 : Int) (v4 : Int) (σ : ZS) (h : wc_X2_bit_32 post v3 v4 σ) : Z Γ 0 0 σ [] 32 [(0, .ref (ad 32)), (3, .int (iz v3)), (4, .int (iz v4))] [] := by
  refine z_iload X 2 dX2_bit_32 rfl ?_
  obtain ⟨i1, h⟩ := h
  refine z_if_ge X 60 dX2_bit_34 rfl i1 (fun c2 => ?_) (fun c2 => ?_)
  · have h := h.1 c2
    exact z_sub [0, 1, 2] rfl (wkc_X2_bit_60 X K hR _ _ _ h)
  · have h := h.2 c2
    refine z_iload X 2 dX2_bit_37 rfl ?_
    refine z_aload_n X 0 dX2_bit_39 rfl ?_
    refine gC_X2_35_X2 X K dX2_bit_40 ?_
    refine z_iadd X dX2_bit_43 ?_
    refine z_topi (fun v4_3 ev4_3 => ?_)
    have h := h v4_3 ev4_3
    refine z_istoreK X K (lv' := [(4, .int (iz v4_3)), (0, .ref (ad 32)), (3, .int (iz v3))]) dX2_bit_44 rfl rfl ?_
    refine z_iload_n X 2 dX2_bit_46 rfl ?_
    refine z_iconst X 4 dX2_bit_47 ?_
    refine z_aload_n X 1 dX2_bit_48 rfl ?_
    refine gC_X2_35_X2 X K dX2_bit_49 ?_
    refine z_iconst X 4 dX2_bit_52 ?_
    refine z_iadd X dX2_bit_53 ?_
    refine z_bipush X 8 dX2_bit_54 rfl ?_
    obtain ⟨i4, h⟩ := h
    obtain ⟨g5, h⟩ := h
    refine z_irem X dX2_bit_56 ⟨i4, (by decide), g5, (by decide)⟩ ?_
    refine z_isub X dX2_bit_57 ?_
    refine z_iadd X dX2_bit_58 ?_
    refine z_topi (fun v3_6 ev3_6 => ?_)
    have h := h v3_6 ev3_6
    refine z_istore_nK X K (lv' := [(3, .int (iz v3_6)), (4, .int (iz v4_3)), (0, .ref (ad 32))]) dX2_bit_59 rfl rfl ?_
    exact z_sub [2, 0, 1] rfl (wkc_X2_bit_60 X K hR _ _ _ h)
set_option maxRecDepth 100000 in
theorem mtc_X2_bit (l : Launch) (D : va_G) (ds : Nat → ClassId) (ad : Nat → Nat) (a0 : Int) (a1 : Int) (σ : ZS) (post : ZS → Prop) (h : wc_X2_bit a0 a1 σ post) : ZMetV l (ΘC D ds ad) yX2_bit cX2_bit 5 3 46 0 0 [.ref (ad 32), .int (iz a0), .int (iz a1)] σ post := by
  refine ZMetV.of (by decide) (Nat.le_of_ble_eq_true rfl) (fun Γ X K hR => ?_)
  have X : ZX Γ cX2_bit RX2 3 46 := X
  refine z_sub [0, 1, 2] (lv' := [(0, .ref (ad 32)), (1, .int (iz a0)), (2, .int (iz a1))]) rfl ?_
  refine z_iload_n X 1 dX2_bit_0 rfl ?_
  refine z_istore_nK X K (lv' := [(3, .int (iz a0)), (0, .ref (ad 32)), (1, .int (iz a0)), (2, .int (iz a1))]) dX2_bit_1 rfl rfl ?_
  refine z_iload_n X 3 dX2_bit_2 rfl ?_
  refine z_istoreK X K (lv' := [(4, .int (iz a1)), (3, .int (iz a0)), (0, .ref (ad 32)), (1, .int (iz a0)), (2, .int (iz a1))]) dX2_bit_3 rfl rfl ?_
  refine z_iload_n X 1 dX2_bit_5 rfl ?_
  obtain ⟨i1, h⟩ := h
  refine z_if_ge X 32 dX2_bit_6 rfl i1 (fun c2 => ?_) (fun c2 => ?_)
  · have h := h.1 c2
    exact z_sub [2, 1, 0] rfl (wkc_X2_bit_32 X K hR _ _ _ h)
  · have h := h.2 c2
    refine z_iload_n X 1 dX2_bit_9 rfl ?_
    refine z_aload_n X 2 dX2_bit_10 rfl ?_
    refine gC_X2_29_X2 X K dX2_bit_11 ?_
    refine z_iadd X dX2_bit_14 ?_
    refine z_topi (fun v3_3 ev3_3 => ?_)
    have h := h v3_3 ev3_3
    refine z_istore_nK X K (lv' := [(3, .int (iz v3_3)), (4, .int (iz a1)), (0, .ref (ad 32)), (1, .int (iz a0)), (2, .int (iz a1))]) dX2_bit_15 rfl rfl ?_
    refine z_iload X 1 dX2_bit_16 rfl ?_
    refine z_iconst X 4 dX2_bit_18 ?_
    refine z_aload_n X 2 dX2_bit_19 rfl ?_
    refine gC_X2_29_X2 X K dX2_bit_20 ?_
    refine z_iconst X 4 dX2_bit_23 ?_
    refine z_iadd X dX2_bit_24 ?_
    refine z_bipush X 8 dX2_bit_25 rfl ?_
    obtain ⟨i4, h⟩ := h
    obtain ⟨g5, h⟩ := h
    refine z_irem X dX2_bit_27 ⟨i4, (by decide), g5, (by decide)⟩ ?_
    refine z_isub X dX2_bit_28 ?_
    refine z_iadd X dX2_bit_29 ?_
    refine z_topi (fun v4_6 ev4_6 => ?_)
    have h := h v4_6 ev4_6
    refine z_istoreK X K (lv' := [(4, .int (iz v4_6)), (3, .int (iz v3_3)), (0, .ref (ad 32)), (1, .int (iz a0)), (2, .int (iz a1))]) dX2_bit_30 rfl rfl ?_
    exact z_sub [2, 1, 0] rfl (wkc_X2_bit_32 X K hR _ _ _ h)
/- X2_utah -/
theorem clc_X2_53 {Γ : ZG} {cc : ByteArray} {fr lo nL mc0 ms0 k n pc : Nat} {xs : va_W} {lv : List (Nat × Value)} {st : List Value} {l : Launch} {D : va_G} {ds : Nat → ClassId} {ad : Nat → Nat} {a0 : Int} {a1 : Int} {σ : ZS} {post : ZS → Prop} (X : ZX Γ cc RX2 fr lo) (K : ZCap Γ l (ΘC D ds ad) nL mc0 ms0) (hrm : zroom 4 70 fr lo = true) (h : wc_X2_bit a0 a1 σ post) (hst : (st.map fun v => v.category).sum ≤ 8) (d : decode cc pc = .ok (.invokevirtual 53, 3)) (hcs : k ≤ mc0 ∧ n ≤ ms0) (kk : ∀ (σ' : ZS), post σ' → Z Γ k n σ' xs (pc + 3) lv (st)) : Z Γ k n σ xs pc lv (.int (iz a1) :: .int (iz a0) :: .ref (ad 32) :: st) := 
  z_callVV' (C := RX2) (q0 := 32) X K (mtc_X2_bit l D ds ad a0 a1 σ post h) (Nat.le_of_ble_eq_true rfl) rfl rfl rfl (lw_V q953 q955 qs27 q109 q956) ⟨rfl, by decide, by decide, rfl⟩ (zroom_of (zroom_le hrm (by decide))) ⟨by rw [K.2.2.2.1]; exact hcs.1, by rw [K.2.2.2.2]; exact hcs.2⟩ hst d rfl kk
set_option maxRecDepth 100000 in
theorem mtc_X2_utah (l : Launch) (D : va_G) (ds : Nat → ClassId) (ad : Nat → Nat) (a0 : Int) (a1 : Int) (σ : ZS) (post : ZS → Prop) (h : wc_X2_utah a0 a1 σ post) : ZMetV l (ΘC D ds ad) yX2_utah cX2_utah 3 4 70 0 0 [.ref (ad 32), .int (iz a0), .int (iz a1)] σ post := by
  refine ZMetV.of (by decide) (Nat.le_of_ble_eq_true rfl) (fun Γ X K hR => ?_)
  have X : ZX Γ cX2_utah RX2 4 70 := X
  refine z_sub [0, 1, 2] (lv' := [(0, .ref (ad 32)), (1, .int (iz a0)), (2, .int (iz a1))]) rfl ?_
  refine z_aload_n X 0 dX2_utah_0 rfl ?_
  refine z_iload_n X 1 dX2_utah_1 rfl ?_
  refine z_iconst X 2 dX2_utah_2 ?_
  refine z_isub X dX2_utah_3 ?_
  refine z_iload_n X 2 dX2_utah_4 rfl ?_
  refine z_iconst X 2 dX2_utah_5 ?_
  refine z_isub X dX2_utah_6 ?_
  refine clc_X2_53 X K rfl h (Nat.le_of_ble_eq_true rfl) dX2_utah_7 ⟨Nat.zero_le _, Nat.zero_le _⟩ (fun σ1 h => ?_)
  refine z_aload_n X 0 dX2_utah_10 rfl ?_
  refine z_iload_n X 1 dX2_utah_11 rfl ?_
  refine z_iconst X 2 dX2_utah_12 ?_
  refine z_isub X dX2_utah_13 ?_
  refine z_iload_n X 2 dX2_utah_14 rfl ?_
  refine z_iconst X 1 dX2_utah_15 ?_
  refine z_isub X dX2_utah_16 ?_
  refine clc_X2_53 X K rfl h (Nat.le_of_ble_eq_true rfl) dX2_utah_17 ⟨Nat.zero_le _, Nat.zero_le _⟩ (fun σ2 h => ?_)
  refine z_aload_n X 0 dX2_utah_20 rfl ?_
  refine z_iload_n X 1 dX2_utah_21 rfl ?_
  refine z_iconst X 1 dX2_utah_22 ?_
  refine z_isub X dX2_utah_23 ?_
  refine z_iload_n X 2 dX2_utah_24 rfl ?_
  refine z_iconst X 2 dX2_utah_25 ?_
  refine z_isub X dX2_utah_26 ?_
  refine clc_X2_53 X K rfl h (Nat.le_of_ble_eq_true rfl) dX2_utah_27 ⟨Nat.zero_le _, Nat.zero_le _⟩ (fun σ3 h => ?_)
  refine z_aload_n X 0 dX2_utah_30 rfl ?_
  refine z_iload_n X 1 dX2_utah_31 rfl ?_
  refine z_iconst X 1 dX2_utah_32 ?_
  refine z_isub X dX2_utah_33 ?_
  refine z_iload_n X 2 dX2_utah_34 rfl ?_
  refine z_iconst X 1 dX2_utah_35 ?_
  refine z_isub X dX2_utah_36 ?_
  refine clc_X2_53 X K rfl h (Nat.le_of_ble_eq_true rfl) dX2_utah_37 ⟨Nat.zero_le _, Nat.zero_le _⟩ (fun σ4 h => ?_)
  refine z_aload_n X 0 dX2_utah_40 rfl ?_
  refine z_iload_n X 1 dX2_utah_41 rfl ?_
  refine z_iconst X 1 dX2_utah_42 ?_
  refine z_isub X dX2_utah_43 ?_
  refine z_iload_n X 2 dX2_utah_44 rfl ?_
  refine clc_X2_53 X K rfl h (Nat.le_of_ble_eq_true rfl) dX2_utah_45 ⟨Nat.zero_le _, Nat.zero_le _⟩ (fun σ5 h => ?_)
  refine z_aload_n X 0 dX2_utah_48 rfl ?_
  refine z_iload_n X 1 dX2_utah_49 rfl ?_
  refine z_iload_n X 2 dX2_utah_50 rfl ?_
  refine z_iconst X 2 dX2_utah_51 ?_
  refine z_isub X dX2_utah_52 ?_
  refine clc_X2_53 X K rfl h (Nat.le_of_ble_eq_true rfl) dX2_utah_53 ⟨Nat.zero_le _, Nat.zero_le _⟩ (fun σ6 h => ?_)
  refine z_aload_n X 0 dX2_utah_56 rfl ?_
  refine z_iload_n X 1 dX2_utah_57 rfl ?_
  refine z_iload_n X 2 dX2_utah_58 rfl ?_
  refine z_iconst X 1 dX2_utah_59 ?_
  refine z_isub X dX2_utah_60 ?_
  refine clc_X2_53 X K rfl h (Nat.le_of_ble_eq_true rfl) dX2_utah_61 ⟨Nat.zero_le _, Nat.zero_le _⟩ (fun σ7 h => ?_)
  refine z_aload_n X 0 dX2_utah_64 rfl ?_
  refine z_iload_n X 1 dX2_utah_65 rfl ?_
  refine z_iload_n X 2 dX2_utah_66 rfl ?_
  refine clc_X2_53 X K rfl h (Nat.le_of_ble_eq_true rfl) dX2_utah_67 ⟨Nat.zero_le _, Nat.zero_le _⟩ (fun σ8 h => ?_)
  exact hR _ _ _ _ _ _ dX2_utah_70 (Nat.le_refl 0) (Nat.le_refl 0) h
/- X3_times -/
set_option maxRecDepth 100000 in
theorem mtc_X3_times (l : Launch) (D : va_G) (ds : Nat → ClassId) (ad : Nat → Nat) (a0 : Int) (a1 : Int) (σ : ZS) (post : Int → ZS → Prop) (h : wc_X3_times a0 a1 σ post) : ZMetI l (ΘC D ds ad) yX3_times cX3_times 3 .int 2 24 0 0 [.ref (ad 35), .int (iz a0), .int (iz a1)] σ post := by
  refine ZMetI.of (by decide) (Nat.le_of_ble_eq_true rfl) (fun Γ X K hR => ?_)
  have X : ZX Γ cX3_times RX3 2 24 := X
  refine z_sub [0, 1, 2] (lv' := [(0, .ref (ad 35)), (1, .int (iz a0)), (2, .int (iz a1))]) rfl ?_
  refine z_iload_n X 1 dX3_times_0 rfl ?_
  obtain ⟨i1, h⟩ := h
  refine z_if_eq X 8 dX3_times_1 rfl i1 (fun c2 => ?_) (fun c2 => ?_)
  · have h := h.1 c2
    refine z_iconst X 0 dX3_times_8 ?_
    refine z_goto (tgt := 30) X dX3_times_9 rfl ?_
    exact hR _ _ _ _ _ _ _ dX3_times_30 rfl (Nat.le_refl 0) (Nat.le_refl 0) h
  · have h := h.2 c2
    refine z_iload_n X 2 dX3_times_4 rfl ?_
    obtain ⟨i3, h⟩ := h
    refine z_if_ne X 12 dX3_times_5 rfl i3 (fun c4 => ?_) (fun c4 => ?_)
    · have h := h.1 c4
      refine z_aload_n X 0 dX3_times_12 rfl ?_
      refine gC_X3_9_X3 X K dX3_times_13 ?_
      refine z_aload_n X 0 dX3_times_16 rfl ?_
      refine gC_X3_15_X3 X K dX3_times_17 ?_
      refine z_iload_n X 1 dX3_times_20 rfl ?_
      obtain ⟨x5, h⟩ := h
      refine z_ald' X K 37 (Nat.le_of_ble_eq_true rfl) rfl rfl (Nat.le_of_ble_eq_true rfl) dX3_times_21 x5 ?_
      refine z_aload_n X 0 dX3_times_22 rfl ?_
      refine gC_X3_15_X3 X K dX3_times_23 ?_
      refine z_iload_n X 2 dX3_times_26 rfl ?_
      obtain ⟨x6, h⟩ := h
      refine z_ald' X K 37 (Nat.le_of_ble_eq_true rfl) rfl rfl (Nat.le_of_ble_eq_true rfl) dX3_times_27 x6 ?_
      refine z_iadd X dX3_times_28 ?_
      obtain ⟨x7, h⟩ := h
      refine z_ald' X K 36 (Nat.le_of_ble_eq_true rfl) rfl rfl (Nat.le_of_ble_eq_true rfl) dX3_times_29 x7 ?_
      exact hR _ _ _ _ _ _ _ dX3_times_30 rfl (Nat.le_refl 0) (Nat.le_refl 0) h
    · have h := h.2 c4
      refine z_iconst X 0 dX3_times_8 ?_
      refine z_goto (tgt := 30) X dX3_times_9 rfl ?_
      exact hR _ _ _ _ _ _ _ dX3_times_30 rfl (Nat.le_refl 0) (Nat.le_refl 0) h
/- X3_over -/
set_option maxRecDepth 100000 in
theorem mtc_X3_over (l : Launch) (D : va_G) (ds : Nat → ClassId) (ad : Nat → Nat) (a0 : Int) (a1 : Int) (σ : ZS) (post : Int → ZS → Prop) (h : wc_X3_over a0 a1 σ post) : ZMetI l (ΘC D ds ad) yX3_over cX3_over 3 .int 2 24 0 0 [.ref (ad 35), .int (iz a0), .int (iz a1)] σ post := by
  refine ZMetI.of (by decide) (Nat.le_of_ble_eq_true rfl) (fun Γ X K hR => ?_)
  have X : ZX Γ cX3_over RX3 2 24 := X
  refine z_sub [0, 1, 2] (lv' := [(0, .ref (ad 35)), (1, .int (iz a0)), (2, .int (iz a1))]) rfl ?_
  refine z_iload_n X 1 dX3_over_0 rfl ?_
  obtain ⟨i1, h⟩ := h
  refine z_if_ne X 8 dX3_over_1 rfl i1 (fun c2 => ?_) (fun c2 => ?_)
  · have h := h.1 c2
    refine z_aload_n X 0 dX3_over_8 rfl ?_
    refine gC_X3_9_X3 X K dX3_over_9 ?_
    refine z_aload_n X 0 dX3_over_12 rfl ?_
    refine gC_X3_15_X3 X K dX3_over_13 ?_
    refine z_iload_n X 1 dX3_over_16 rfl ?_
    obtain ⟨x3, h⟩ := h
    refine z_ald' X K 37 (Nat.le_of_ble_eq_true rfl) rfl rfl (Nat.le_of_ble_eq_true rfl) dX3_over_17 x3 ?_
    refine z_sipush X 255 dX3_over_18 rfl ?_
    refine z_iadd X dX3_over_21 ?_
    refine z_aload_n X 0 dX3_over_22 rfl ?_
    refine gC_X3_15_X3 X K dX3_over_23 ?_
    refine z_iload_n X 2 dX3_over_26 rfl ?_
    obtain ⟨x4, h⟩ := h
    refine z_ald' X K 37 (Nat.le_of_ble_eq_true rfl) rfl rfl (Nat.le_of_ble_eq_true rfl) dX3_over_27 x4 ?_
    refine z_isub X dX3_over_28 ?_
    obtain ⟨x5, h⟩ := h
    refine z_ald' X K 36 (Nat.le_of_ble_eq_true rfl) rfl rfl (Nat.le_of_ble_eq_true rfl) dX3_over_29 x5 ?_
    exact hR _ _ _ _ _ _ _ dX3_over_30 rfl (Nat.le_refl 0) (Nat.le_refl 0) h
  · have h := h.2 c2
    refine z_iconst X 0 dX3_over_4 ?_
    refine z_goto (tgt := 30) X dX3_over_5 rfl ?_
    exact hR _ _ _ _ _ _ _ dX3_over_30 rfl (Nat.le_refl 0) (Nat.le_refl 0) h
/- X3_check -/
theorem clc_X3_39 {Γ : ZG} {cc : ByteArray} {fr lo nL mc0 ms0 k n pc : Nat} {xs : va_W} {lv : List (Nat × Value)} {st : List Value} {l : Launch} {D : va_G} {ds : Nat → ClassId} {ad : Nat → Nat} {a0 : Int} {a1 : Int} {σ : ZS} {post : Int → ZS → Prop} (X : ZX Γ cc RX3 fr lo) (K : ZCap Γ l (ΘC D ds ad) nL mc0 ms0) (hrm : zroom 3 46 fr lo = true) (h : wc_X3_times a0 a1 σ post) (hst : (st.map fun v => v.category).sum ≤ 8) (d : decode cc pc = .ok (.invokevirtual 39, 3)) (hcs : k ≤ mc0 ∧ n ≤ ms0) (kk : ∀ (r : Int) (σ' : ZS), post r σ' → Z Γ k n σ' xs (pc + 3) lv (.int (iz r) :: st)) : Z Γ k n σ xs pc lv (.int (iz a1) :: .int (iz a0) :: .ref (ad 35) :: st) := 
  z_callVI' (C := RX3) (q0 := 35) X K (mtc_X3_times l D ds ad a0 a1 σ post h) (Nat.le_of_ble_eq_true rfl) rfl rfl rfl (lw_V q925 q927 qs21 q110 q928) ⟨rfl, by decide, by decide, rfl⟩ (zroom_of (zroom_le hrm (by decide))) ⟨by rw [K.2.2.2.1]; exact hcs.1, by rw [K.2.2.2.2]; exact hcs.2⟩ hst d rfl kk
set_option maxRecDepth 100000 in
theorem wkc_X3_check_217 {Γ : ZG} {l : Launch} {D : va_G} {ds : Nat → ClassId} {ad : Nat → Nat} {post : ZS → Prop} (X : ZX Γ cX3_check RX3 3 46) (K : ZCap Γ l (ΘC D ds ad) 6 0 0) (hR : ZRetV Γ cX3_check 0 0 post) : ∀ (N : Nat) (v1 : Int) (v2 : Int) (v3 : Int) (σ : ZS), zfix (wbc_X3_check_217 post) N (v1, v2, v3, σ) → Z Γ 0 0 σ [] 217 [(0, .ref (ad 35)), (1, .int (iz v1)), (2, .int (iz v2)), (3, .int (iz v3))] [] := by
  intro N
  induction N with
  | zero => intro v1 v2 v3 σ h; exact False.elim h
  | succ N ih =>
    intro v1 v2 v3 σ h
    have h : wbc_X3_check_217 post (zfix (wbc_X3_check_217 post) N) (v1, v2, v3, σ) := h
    have hC217 := ih
    clear ih
    generalize zfix (wbc_X3_check_217 post) N = C217 at h hC217
    dsimp only [wbc_X3_check_217] at h
    refine z_iload_n X 3 dX3_check_217 rfl ?_
    refine z_iload_n X 2 dX3_check_218 rfl ?_
    obtain ⟨i1, h⟩ := h
    obtain ⟨i2, h⟩ := h
    refine z_icmp_ge X 244 dX3_check_219 rfl i1 i2 (fun c3 => ?_) (fun c3 => ?_)
    · have h := h.1 c3
      exact hR _ _ _ _ _ _ dX3_check_244 (Nat.le_refl 0) (Nat.le_refl 0) h
    · have h := h.2 c3
      refine z_aload_n X 0 dX3_check_222 rfl ?_
      refine gC_X3_21_X3 X K dX3_check_223 ?_
      refine z_iload_n X 1 dX3_check_226 rfl ?_
      refine z_iload_n X 2 dX3_check_227 rfl ?_
      refine z_isub X dX3_check_228 ?_
      refine z_iload_n X 3 dX3_check_229 rfl ?_
      refine z_iadd X dX3_check_230 ?_
      refine z_aload_n X 0 dX3_check_231 rfl ?_
      refine gC_X3_33_X3 X K dX3_check_232 ?_
      refine z_iload_n X 3 dX3_check_235 rfl ?_
      obtain ⟨x4, h⟩ := h
      refine z_ald' X K 43 (Nat.le_of_ble_eq_true rfl) rfl rfl (Nat.le_of_ble_eq_true rfl) dX3_check_236 x4 ?_
      obtain ⟨x5, h⟩ := h
      refine z_ast' X K 39 (Nat.le_of_ble_eq_true rfl) rfl rfl (Nat.le_of_ble_eq_true rfl) dX3_check_237 x5 (fun σ6 eσ6 => ?_)
      have h := h σ6 eσ6
      refine z_iincK X K 3 (lv' := [(3, .int (iz (v3 + 1))), (0, .ref (ad 35)), (1, .int (iz v1)), (2, .int (iz v2))]) dX3_check_238 rfl rfl rfl ?_
      refine z_goto (tgt := 217) X dX3_check_241 rfl ?_
      exact z_sub [1, 2, 3, 0] rfl (hC217 _ _ _ _ h)
set_option maxRecDepth 100000 in
theorem wkc_X3_check_186 {Γ : ZG} {l : Launch} {D : va_G} {ds : Nat → ClassId} {ad : Nat → Nat} {post : ZS → Prop} (X : ZX Γ cX3_check RX3 3 46) (K : ZCap Γ l (ΘC D ds ad) 6 0 0) (hR : ZRetV Γ cX3_check 0 0 post) {C128 : Int × Int × Int × ZS → Prop} (hC128 : ∀ (v1 : Int) (v2 : Int) (v3 : Int) (σ : ZS), C128 (v1, v2, v3, σ) → Z Γ 0 0 σ [] 128 [(0, .ref (ad 35)), (1, .int (iz v1)), (2, .int (iz v2)), (3, .int (iz v3))] []) {C153 : Int × Int × Int × Int × Int × ZS → Prop} (hC153 : ∀ (v1 : Int) (v2 : Int) (v3 : Int) (v4 : Int) (v5 : Int) (σ : ZS), C153 (v1, v2, v3, v4, v5, σ) → Z Γ 0 0 σ [] 153 [(0, .ref (ad 35)), (1, .int (iz v1)), (2, .int (iz v2)), (3, .int (iz v3)), (4, .int (iz v4)), (5, .int (iz v5))] []) (v1 : Int) (v2 : Int) (v3 : Int) (v4 : Int) (v5 : Int) (t0 : Int) (t1 : Int) (σ : ZS) (h : wc_X3_check_186 C128 C153 post v1 v2 v3 v4 v5 t0 t1 σ) : Z Γ 0 0 σ [] 186 [(0, .ref (ad 35)), (1, .int (iz v1)), (2, .int (iz v2)), (3, .int (iz v3)), (4, .int (iz v4)), (5, .int (iz v5))] [.int (iz t0), .int (iz t1), .ref (ad 43)] := by
  refine z_aload_n X 0 dX3_check_186 rfl ?_
  refine z_iload X 4 dX3_check_187 rfl ?_
  refine z_aload_n X 0 dX3_check_189 rfl ?_
  refine gC_X3_18_X3 X K dX3_check_190 ?_
  refine z_iload X 5 dX3_check_193 rfl ?_
  refine z_iconst X 1 dX3_check_195 ?_
  refine z_iadd X dX3_check_196 ?_
  obtain ⟨x1, h⟩ := h
  refine z_ald' X K 38 (Nat.le_of_ble_eq_true rfl) rfl rfl (Nat.le_of_ble_eq_true rfl) dX3_check_197 x1 ?_
  refine clc_X3_39 X K rfl h (Nat.le_of_ble_eq_true rfl) dX3_check_198 ⟨Nat.zero_le _, Nat.zero_le _⟩ (fun r3 σ2 h => ?_)
  refine z_ixor X dX3_check_201 ?_
  obtain ⟨x4, h⟩ := h
  refine z_ast' X K 43 (Nat.le_of_ble_eq_true rfl) rfl rfl (Nat.le_of_ble_eq_true rfl) dX3_check_202 x4 (fun σ5 eσ5 => ?_)
  have h := h σ5 eσ5
  refine z_iincK X K 5 (lv' := [(5, .int (iz (v5 + 1))), (0, .ref (ad 35)), (1, .int (iz v1)), (2, .int (iz v2)), (3, .int (iz v3)), (4, .int (iz v4))]) dX3_check_203 rfl rfl rfl ?_
  refine z_goto (tgt := 153) X dX3_check_206 rfl ?_
  exact z_sub [1, 2, 3, 4, 5, 0] rfl (hC153 _ _ _ _ _ _ h)
set_option maxRecDepth 100000 in
theorem wkc_X3_check_153 {Γ : ZG} {l : Launch} {D : va_G} {ds : Nat → ClassId} {ad : Nat → Nat} {post : ZS → Prop} (X : ZX Γ cX3_check RX3 3 46) (K : ZCap Γ l (ΘC D ds ad) 6 0 0) (hR : ZRetV Γ cX3_check 0 0 post) {C128 : Int × Int × Int × ZS → Prop} (hC128 : ∀ (v1 : Int) (v2 : Int) (v3 : Int) (σ : ZS), C128 (v1, v2, v3, σ) → Z Γ 0 0 σ [] 128 [(0, .ref (ad 35)), (1, .int (iz v1)), (2, .int (iz v2)), (3, .int (iz v3))] []) : ∀ (N : Nat) (v1 : Int) (v2 : Int) (v3 : Int) (v4 : Int) (v5 : Int) (σ : ZS), zfix (wbc_X3_check_153 C128 post) N (v1, v2, v3, v4, v5, σ) → Z Γ 0 0 σ [] 153 [(0, .ref (ad 35)), (1, .int (iz v1)), (2, .int (iz v2)), (3, .int (iz v3)), (4, .int (iz v4)), (5, .int (iz v5))] [] := by
  intro N
  induction N with
  | zero => intro v1 v2 v3 v4 v5 σ h; exact False.elim h
  | succ N ih =>
    intro v1 v2 v3 v4 v5 σ h
    have h : wbc_X3_check_153 C128 post (zfix (wbc_X3_check_153 C128 post) N) (v1, v2, v3, v4, v5, σ) := h
    have hC153 := ih
    clear ih
    generalize zfix (wbc_X3_check_153 C128 post) N = C153 at h hC153
    dsimp only [wbc_X3_check_153] at h
    refine z_iload X 5 dX3_check_153 rfl ?_
    refine z_iload_n X 2 dX3_check_155 rfl ?_
    obtain ⟨i1, h⟩ := h
    obtain ⟨i2, h⟩ := h
    refine z_icmp_ge X 209 dX3_check_156 rfl i1 i2 (fun c3 => ?_) (fun c3 => ?_)
    · have h := h.1 c3
      refine z_iincK X K 3 (lv' := [(3, .int (iz (v3 + 1))), (0, .ref (ad 35)), (1, .int (iz v1)), (2, .int (iz v2)), (4, .int (iz v4)), (5, .int (iz v5))]) dX3_check_209 rfl rfl rfl ?_
      refine z_goto (tgt := 128) X dX3_check_212 rfl ?_
      exact z_sub [1, 2, 3, 0] rfl (hC128 _ _ _ _ h)
    · have h := h.2 c3
      refine z_aload_n X 0 dX3_check_159 rfl ?_
      refine gC_X3_33_X3 X K dX3_check_160 ?_
      refine z_iload X 5 dX3_check_163 rfl ?_
      refine z_iload X 5 dX3_check_165 rfl ?_
      refine z_iconst X 1 dX3_check_167 ?_
      refine z_iadd X dX3_check_168 ?_
      refine z_iload_n X 2 dX3_check_169 rfl ?_
      obtain ⟨i4, h⟩ := h
      refine z_icmp_ge X 185 dX3_check_170 rfl i4 i2 (fun c5 => ?_) (fun c5 => ?_)
      · have h := h.1 c5
        refine z_iconst X 0 dX3_check_185 ?_
        exact z_sub [0, 1, 2, 3, 4, 5] rfl (wkc_X3_check_186 X K hR hC128 hC153 _ _ _ _ _ _ _ _ h)
      · have h := h.2 c5
        refine z_aload_n X 0 dX3_check_173 rfl ?_
        refine gC_X3_33_X3 X K dX3_check_174 ?_
        refine z_iload X 5 dX3_check_177 rfl ?_
        refine z_iconst X 1 dX3_check_179 ?_
        refine z_iadd X dX3_check_180 ?_
        obtain ⟨x6, h⟩ := h
        refine z_ald' X K 43 (Nat.le_of_ble_eq_true rfl) rfl rfl (Nat.le_of_ble_eq_true rfl) dX3_check_181 x6 ?_
        refine z_goto (tgt := 186) X dX3_check_182 rfl ?_
        exact z_sub [0, 1, 2, 3, 4, 5] rfl (wkc_X3_check_186 X K hR hC128 hC153 _ _ _ _ _ _ _ _ h)
set_option maxRecDepth 100000 in
theorem wkc_X3_check_128 {Γ : ZG} {l : Launch} {D : va_G} {ds : Nat → ClassId} {ad : Nat → Nat} {post : ZS → Prop} (X : ZX Γ cX3_check RX3 3 46) (K : ZCap Γ l (ΘC D ds ad) 6 0 0) (hR : ZRetV Γ cX3_check 0 0 post) : ∀ (N : Nat) (v1 : Int) (v2 : Int) (v3 : Int) (σ : ZS), zfix (wbc_X3_check_128 post) N (v1, v2, v3, σ) → Z Γ 0 0 σ [] 128 [(0, .ref (ad 35)), (1, .int (iz v1)), (2, .int (iz v2)), (3, .int (iz v3))] [] := by
  intro N
  induction N with
  | zero => intro v1 v2 v3 σ h; exact False.elim h
  | succ N ih =>
    intro v1 v2 v3 σ h
    have h : wbc_X3_check_128 post (zfix (wbc_X3_check_128 post) N) (v1, v2, v3, σ) := h
    have hC128 := ih
    clear ih
    generalize zfix (wbc_X3_check_128 post) N = C128 at h hC128
    dsimp only [wbc_X3_check_128] at h
    refine z_iload_n X 3 dX3_check_128 rfl ?_
    refine z_iload_n X 1 dX3_check_129 rfl ?_
    refine z_iload_n X 2 dX3_check_130 rfl ?_
    refine z_isub X dX3_check_131 ?_
    obtain ⟨i1, h⟩ := h
    obtain ⟨i2, h⟩ := h
    refine z_icmp_ge X 215 dX3_check_132 rfl i1 i2 (fun c3 => ?_) (fun c3 => ?_)
    · have h := h.1 c3
      refine z_iconst X 0 dX3_check_215 ?_
      refine z_istore_nK X K (lv' := [(3, .int (iz 0)), (0, .ref (ad 35)), (1, .int (iz v1)), (2, .int (iz v2))]) dX3_check_216 rfl rfl ?_
      obtain ⟨N, h⟩ := h
      exact z_sub [1, 2, 3, 0] rfl (wkc_X3_check_217 X K hR N _ _ _ _ h)
    · have h := h.2 c3
      refine z_aload_n X 0 dX3_check_135 rfl ?_
      refine gC_X3_21_X3 X K dX3_check_136 ?_
      refine z_iload_n X 3 dX3_check_139 rfl ?_
      obtain ⟨x4, h⟩ := h
      refine z_ald' X K 39 (Nat.le_of_ble_eq_true rfl) rfl rfl (Nat.le_of_ble_eq_true rfl) dX3_check_140 x4 ?_
      refine z_aload_n X 0 dX3_check_141 rfl ?_
      refine gC_X3_33_X3 X K dX3_check_142 ?_
      refine z_iconst X 0 dX3_check_145 ?_
      refine z_ald' X K 43 (Nat.le_of_ble_eq_true rfl) rfl rfl (Nat.le_of_ble_eq_true rfl) dX3_check_146 (by decide) ?_
      refine z_ixor X dX3_check_147 ?_
      refine z_topi (fun v4_5 ev4_5 => ?_)
      have h := h v4_5 ev4_5
      refine z_istoreK X K (lv' := [(4, .int (iz v4_5)), (0, .ref (ad 35)), (1, .int (iz v1)), (2, .int (iz v2)), (3, .int (iz v3))]) dX3_check_148 rfl rfl ?_
      refine z_iconst X 0 dX3_check_150 ?_
      refine z_istoreK X K (lv' := [(5, .int (iz 0)), (4, .int (iz v4_5)), (0, .ref (ad 35)), (1, .int (iz v1)), (2, .int (iz v2)), (3, .int (iz v3))]) dX3_check_151 rfl rfl ?_
      obtain ⟨N, h⟩ := h
      exact z_sub [2, 3, 4, 5, 1, 0] rfl (wkc_X3_check_153 X K hR hC128 N _ _ _ _ _ _ h)
set_option maxRecDepth 100000 in
theorem wkc_X3_check_108 {Γ : ZG} {l : Launch} {D : va_G} {ds : Nat → ClassId} {ad : Nat → Nat} {post : ZS → Prop} (X : ZX Γ cX3_check RX3 3 46) (K : ZCap Γ l (ΘC D ds ad) 6 0 0) (hR : ZRetV Γ cX3_check 0 0 post) : ∀ (N : Nat) (v1 : Int) (v2 : Int) (v3 : Int) (σ : ZS), zfix (wbc_X3_check_108 post) N (v1, v2, v3, σ) → Z Γ 0 0 σ [] 108 [(0, .ref (ad 35)), (1, .int (iz v1)), (2, .int (iz v2)), (3, .int (iz v3))] [] := by
  intro N
  induction N with
  | zero => intro v1 v2 v3 σ h; exact False.elim h
  | succ N ih =>
    intro v1 v2 v3 σ h
    have h : wbc_X3_check_108 post (zfix (wbc_X3_check_108 post) N) (v1, v2, v3, σ) := h
    have hC108 := ih
    clear ih
    generalize zfix (wbc_X3_check_108 post) N = C108 at h hC108
    dsimp only [wbc_X3_check_108] at h
    refine z_iload_n X 3 dX3_check_108 rfl ?_
    refine z_iload_n X 2 dX3_check_109 rfl ?_
    obtain ⟨i1, h⟩ := h
    obtain ⟨i2, h⟩ := h
    refine z_icmp_ge X 126 dX3_check_110 rfl i1 i2 (fun c3 => ?_) (fun c3 => ?_)
    · have h := h.1 c3
      refine z_iconst X 0 dX3_check_126 ?_
      refine z_istore_nK X K (lv' := [(3, .int (iz 0)), (0, .ref (ad 35)), (1, .int (iz v1)), (2, .int (iz v2))]) dX3_check_127 rfl rfl ?_
      obtain ⟨N, h⟩ := h
      exact z_sub [1, 2, 3, 0] rfl (wkc_X3_check_128 X K hR N _ _ _ _ h)
    · have h := h.2 c3
      refine z_aload_n X 0 dX3_check_113 rfl ?_
      refine gC_X3_33_X3 X K dX3_check_114 ?_
      refine z_iload_n X 3 dX3_check_117 rfl ?_
      refine z_iconst X 0 dX3_check_118 ?_
      obtain ⟨x4, h⟩ := h
      refine z_ast' X K 43 (Nat.le_of_ble_eq_true rfl) rfl rfl (Nat.le_of_ble_eq_true rfl) dX3_check_119 x4 (fun σ5 eσ5 => ?_)
      have h := h σ5 eσ5
      refine z_iincK X K 3 (lv' := [(3, .int (iz (v3 + 1))), (0, .ref (ad 35)), (1, .int (iz v1)), (2, .int (iz v2))]) dX3_check_120 rfl rfl rfl ?_
      refine z_goto (tgt := 108) X dX3_check_123 rfl ?_
      exact z_sub [1, 2, 3, 0] rfl (hC108 _ _ _ _ h)
set_option maxRecDepth 100000 in
theorem wkc_X3_check_88 {Γ : ZG} {l : Launch} {D : va_G} {ds : Nat → ClassId} {ad : Nat → Nat} {post : ZS → Prop} (X : ZX Γ cX3_check RX3 3 46) (K : ZCap Γ l (ΘC D ds ad) 6 0 0) (hR : ZRetV Γ cX3_check 0 0 post) : ∀ (N : Nat) (v1 : Int) (v2 : Int) (v3 : Int) (σ : ZS), zfix (wbc_X3_check_88 post) N (v1, v2, v3, σ) → Z Γ 0 0 σ [] 88 [(0, .ref (ad 35)), (1, .int (iz v1)), (2, .int (iz v2)), (3, .int (iz v3))] [] := by
  intro N
  induction N with
  | zero => intro v1 v2 v3 σ h; exact False.elim h
  | succ N ih =>
    intro v1 v2 v3 σ h
    have h : wbc_X3_check_88 post (zfix (wbc_X3_check_88 post) N) (v1, v2, v3, σ) := h
    have hC88 := ih
    clear ih
    generalize zfix (wbc_X3_check_88 post) N = C88 at h hC88
    dsimp only [wbc_X3_check_88] at h
    refine z_iload_n X 3 dX3_check_88 rfl ?_
    refine z_iload_n X 1 dX3_check_89 rfl ?_
    obtain ⟨i1, h⟩ := h
    obtain ⟨i2, h⟩ := h
    refine z_icmp_ge X 106 dX3_check_90 rfl i1 i2 (fun c3 => ?_) (fun c3 => ?_)
    · have h := h.1 c3
      refine z_iconst X 0 dX3_check_106 ?_
      refine z_istore_nK X K (lv' := [(3, .int (iz 0)), (0, .ref (ad 35)), (1, .int (iz v1)), (2, .int (iz v2))]) dX3_check_107 rfl rfl ?_
      obtain ⟨N, h⟩ := h
      exact z_sub [1, 2, 3, 0] rfl (wkc_X3_check_108 X K hR N _ _ _ _ h)
    · have h := h.2 c3
      refine z_aload_n X 0 dX3_check_93 rfl ?_
      refine gC_X3_21_X3 X K dX3_check_94 ?_
      refine z_iload_n X 3 dX3_check_97 rfl ?_
      refine z_iconst X 0 dX3_check_98 ?_
      obtain ⟨x4, h⟩ := h
      refine z_ast' X K 39 (Nat.le_of_ble_eq_true rfl) rfl rfl (Nat.le_of_ble_eq_true rfl) dX3_check_99 x4 (fun σ5 eσ5 => ?_)
      have h := h σ5 eσ5
      refine z_iincK X K 3 (lv' := [(3, .int (iz (v3 + 1))), (0, .ref (ad 35)), (1, .int (iz v1)), (2, .int (iz v2))]) dX3_check_100 rfl rfl rfl ?_
      refine z_goto (tgt := 88) X dX3_check_103 rfl ?_
      exact z_sub [1, 2, 3, 0] rfl (hC88 _ _ _ _ h)
set_option maxRecDepth 100000 in
theorem wkc_X3_check_38 {Γ : ZG} {l : Launch} {D : va_G} {ds : Nat → ClassId} {ad : Nat → Nat} {post : ZS → Prop} (X : ZX Γ cX3_check RX3 3 46) (K : ZCap Γ l (ΘC D ds ad) 6 0 0) (hR : ZRetV Γ cX3_check 0 0 post) {C30 : Int × Int × Int × ZS → Prop} (hC30 : ∀ (v1 : Int) (v2 : Int) (v3 : Int) (σ : ZS), C30 (v1, v2, v3, σ) → Z Γ 0 0 σ [] 30 [(0, .ref (ad 35)), (1, .int (iz v1)), (2, .int (iz v2)), (3, .int (iz v3))] []) : ∀ (N : Nat) (v1 : Int) (v2 : Int) (v3 : Int) (v4 : Int) (σ : ZS), zfix (wbc_X3_check_38 C30 post) N (v1, v2, v3, v4, σ) → Z Γ 0 0 σ [] 38 [(0, .ref (ad 35)), (1, .int (iz v1)), (2, .int (iz v2)), (3, .int (iz v3)), (4, .int (iz v4))] [] := by
  intro N
  induction N with
  | zero => intro v1 v2 v3 v4 σ h; exact False.elim h
  | succ N ih =>
    intro v1 v2 v3 v4 σ h
    have h : wbc_X3_check_38 C30 post (zfix (wbc_X3_check_38 C30 post) N) (v1, v2, v3, v4, σ) := h
    have hC38 := ih
    clear ih
    generalize zfix (wbc_X3_check_38 C30 post) N = C38 at h hC38
    dsimp only [wbc_X3_check_38] at h
    refine z_iload X 4 dX3_check_38 rfl ?_
    obtain ⟨i1, h⟩ := h
    refine z_if_le X 78 dX3_check_40 rfl i1 (fun c2 => ?_) (fun c2 => ?_)
    · have h := h.1 c2
      refine z_iincK X K 3 (lv' := [(3, .int (iz (v3 + 1))), (0, .ref (ad 35)), (1, .int (iz v1)), (2, .int (iz v2)), (4, .int (iz v4))]) dX3_check_78 rfl rfl rfl ?_
      refine z_goto (tgt := 30) X dX3_check_81 rfl ?_
      exact z_sub [1, 2, 3, 0] rfl (hC30 _ _ _ _ h)
    · have h := h.2 c2
      refine z_aload_n X 0 dX3_check_43 rfl ?_
      refine gC_X3_18_X3 X K dX3_check_44 ?_
      refine z_iload X 4 dX3_check_47 rfl ?_
      refine z_dup2 X dX3_check_49 rfl rfl ?_
      obtain ⟨x3, h⟩ := h
      refine z_ald' X K 38 (Nat.le_of_ble_eq_true rfl) rfl rfl (Nat.le_of_ble_eq_true rfl) dX3_check_50 x3 ?_
      refine z_aload_n X 0 dX3_check_51 rfl ?_
      refine z_aload_n X 0 dX3_check_52 rfl ?_
      refine gC_X3_18_X3 X K dX3_check_53 ?_
      refine z_iload X 4 dX3_check_56 rfl ?_
      refine z_iconst X 1 dX3_check_58 ?_
      refine z_isub X dX3_check_59 ?_
      obtain ⟨x4, h⟩ := h
      refine z_ald' X K 38 (Nat.le_of_ble_eq_true rfl) rfl rfl (Nat.le_of_ble_eq_true rfl) dX3_check_60 x4 ?_
      refine z_aload_n X 0 dX3_check_61 rfl ?_
      refine gC_X3_9_X3 X K dX3_check_62 ?_
      refine z_iload_n X 3 dX3_check_65 rfl ?_
      obtain ⟨x5, h⟩ := h
      refine z_ald' X K 36 (Nat.le_of_ble_eq_true rfl) rfl rfl (Nat.le_of_ble_eq_true rfl) dX3_check_66 x5 ?_
      refine clc_X3_39 X K rfl h (Nat.le_of_ble_eq_true rfl) dX3_check_67 ⟨Nat.zero_le _, Nat.zero_le _⟩ (fun r7 σ6 h => ?_)
      refine z_ixor X dX3_check_70 ?_
      refine z_ast' X K 38 (Nat.le_of_ble_eq_true rfl) rfl rfl (Nat.le_of_ble_eq_true rfl) dX3_check_71 x3 (fun σ8 eσ8 => ?_)
      have h := h σ8 eσ8
      refine z_iincK X K 4 (lv' := [(4, .int (iz (v4 + (-1)))), (0, .ref (ad 35)), (1, .int (iz v1)), (2, .int (iz v2)), (3, .int (iz v3))]) dX3_check_72 rfl rfl rfl ?_
      refine z_goto (tgt := 38) X dX3_check_75 rfl ?_
      exact z_sub [1, 2, 3, 4, 0] rfl (hC38 _ _ _ _ _ h)
set_option maxRecDepth 100000 in
theorem wkc_X3_check_30 {Γ : ZG} {l : Launch} {D : va_G} {ds : Nat → ClassId} {ad : Nat → Nat} {post : ZS → Prop} (X : ZX Γ cX3_check RX3 3 46) (K : ZCap Γ l (ΘC D ds ad) 6 0 0) (hR : ZRetV Γ cX3_check 0 0 post) : ∀ (N : Nat) (v1 : Int) (v2 : Int) (v3 : Int) (σ : ZS), zfix (wbc_X3_check_30 post) N (v1, v2, v3, σ) → Z Γ 0 0 σ [] 30 [(0, .ref (ad 35)), (1, .int (iz v1)), (2, .int (iz v2)), (3, .int (iz v3))] [] := by
  intro N
  induction N with
  | zero => intro v1 v2 v3 σ h; exact False.elim h
  | succ N ih =>
    intro v1 v2 v3 σ h
    have h : wbc_X3_check_30 post (zfix (wbc_X3_check_30 post) N) (v1, v2, v3, σ) := h
    have hC30 := ih
    clear ih
    generalize zfix (wbc_X3_check_30 post) N = C30 at h hC30
    dsimp only [wbc_X3_check_30] at h
    refine z_iload_n X 3 dX3_check_30 rfl ?_
    refine z_iload_n X 2 dX3_check_31 rfl ?_
    obtain ⟨i1, h⟩ := h
    obtain ⟨i2, h⟩ := h
    refine z_icmp_gt X 84 dX3_check_32 rfl i1 i2 (fun c3 => ?_) (fun c3 => ?_)
    · have h := h.1 c3
      refine z_iload_n X 1 dX3_check_84 rfl ?_
      refine z_iload_n X 2 dX3_check_85 rfl ?_
      refine z_isub X dX3_check_86 ?_
      refine z_topi (fun v3_4 ev3_4 => ?_)
      have h := h v3_4 ev3_4
      refine z_istore_nK X K (lv' := [(3, .int (iz v3_4)), (0, .ref (ad 35)), (1, .int (iz v1)), (2, .int (iz v2))]) dX3_check_87 rfl rfl ?_
      obtain ⟨N, h⟩ := h
      exact z_sub [1, 2, 3, 0] rfl (wkc_X3_check_88 X K hR N _ _ _ _ h)
    · have h := h.2 c3
      refine z_iload_n X 3 dX3_check_35 rfl ?_
      refine z_istoreK X K (lv' := [(4, .int (iz v3)), (0, .ref (ad 35)), (1, .int (iz v1)), (2, .int (iz v2)), (3, .int (iz v3))]) dX3_check_36 rfl rfl ?_
      obtain ⟨N, h⟩ := h
      exact z_sub [1, 2, 3, 4, 0] rfl (wkc_X3_check_38 X K hR hC30 N _ _ _ _ _ h)
set_option maxRecDepth 100000 in
theorem wkc_X3_check_21 {Γ : ZG} {l : Launch} {D : va_G} {ds : Nat → ClassId} {ad : Nat → Nat} {post : ZS → Prop} (X : ZX Γ cX3_check RX3 3 46) (K : ZCap Γ l (ΘC D ds ad) 6 0 0) (hR : ZRetV Γ cX3_check 0 0 post) {C2 : Int × Int × Int × ZS → Prop} (hC2 : ∀ (v1 : Int) (v2 : Int) (v3 : Int) (σ : ZS), C2 (v1, v2, v3, σ) → Z Γ 0 0 σ [] 2 [(0, .ref (ad 35)), (1, .int (iz v1)), (2, .int (iz v2)), (3, .int (iz v3))] []) (v1 : Int) (v2 : Int) (v3 : Int) (t0 : Int) (t1 : Int) (σ : ZS) (h : wc_X3_check_21 C2 post v1 v2 v3 t0 t1 σ) : Z Γ 0 0 σ [] 21 [(0, .ref (ad 35)), (1, .int (iz v1)), (2, .int (iz v2)), (3, .int (iz v3))] [.int (iz t0), .int (iz t1), .ref (ad 38)] := by
  obtain ⟨x1, h⟩ := h
  refine z_ast' X K 38 (Nat.le_of_ble_eq_true rfl) rfl rfl (Nat.le_of_ble_eq_true rfl) dX3_check_21 x1 (fun σ2 eσ2 => ?_)
  have h := h σ2 eσ2
  refine z_iincK X K 3 (lv' := [(3, .int (iz (v3 + 1))), (0, .ref (ad 35)), (1, .int (iz v1)), (2, .int (iz v2))]) dX3_check_22 rfl rfl rfl ?_
  refine z_goto (tgt := 2) X dX3_check_25 rfl ?_
  exact z_sub [1, 2, 3, 0] rfl (hC2 _ _ _ _ h)
set_option maxRecDepth 100000 in
theorem wkc_X3_check_2 {Γ : ZG} {l : Launch} {D : va_G} {ds : Nat → ClassId} {ad : Nat → Nat} {post : ZS → Prop} (X : ZX Γ cX3_check RX3 3 46) (K : ZCap Γ l (ΘC D ds ad) 6 0 0) (hR : ZRetV Γ cX3_check 0 0 post) : ∀ (N : Nat) (v1 : Int) (v2 : Int) (v3 : Int) (σ : ZS), zfix (wbc_X3_check_2 post) N (v1, v2, v3, σ) → Z Γ 0 0 σ [] 2 [(0, .ref (ad 35)), (1, .int (iz v1)), (2, .int (iz v2)), (3, .int (iz v3))] [] := by
  intro N
  induction N with
  | zero => intro v1 v2 v3 σ h; exact False.elim h
  | succ N ih =>
    intro v1 v2 v3 σ h
    have h : wbc_X3_check_2 post (zfix (wbc_X3_check_2 post) N) (v1, v2, v3, σ) := h
    have hC2 := ih
    clear ih
    generalize zfix (wbc_X3_check_2 post) N = C2 at h hC2
    dsimp only [wbc_X3_check_2] at h
    refine z_iload_n X 3 dX3_check_2 rfl ?_
    refine z_iload_n X 2 dX3_check_3 rfl ?_
    obtain ⟨i1, h⟩ := h
    obtain ⟨i2, h⟩ := h
    refine z_icmp_gt X 28 dX3_check_4 rfl i1 i2 (fun c3 => ?_) (fun c3 => ?_)
    · have h := h.1 c3
      refine z_iconst X 1 dX3_check_28 ?_
      refine z_istore_nK X K (lv' := [(3, .int (iz 1)), (0, .ref (ad 35)), (1, .int (iz v1)), (2, .int (iz v2))]) dX3_check_29 rfl rfl ?_
      obtain ⟨N, h⟩ := h
      exact z_sub [1, 2, 3, 0] rfl (wkc_X3_check_30 X K hR N _ _ _ _ h)
    · have h := h.2 c3
      refine z_aload_n X 0 dX3_check_7 rfl ?_
      refine gC_X3_18_X3 X K dX3_check_8 ?_
      refine z_iload_n X 3 dX3_check_11 rfl ?_
      refine z_iload_n X 3 dX3_check_12 rfl ?_
      refine z_if_ne X 20 dX3_check_13 rfl i1 (fun c4 => ?_) (fun c4 => ?_)
      · have h := h.1 c4
        refine z_iconst X 0 dX3_check_20 ?_
        exact z_sub [0, 1, 2, 3] rfl (wkc_X3_check_21 X K hR hC2 _ _ _ _ _ _ h)
      · have h := h.2 c4
        refine z_iconst X 1 dX3_check_16 ?_
        refine z_goto (tgt := 21) X dX3_check_17 rfl ?_
        exact z_sub [0, 1, 2, 3] rfl (wkc_X3_check_21 X K hR hC2 _ _ _ _ _ _ h)
set_option maxRecDepth 100000 in
theorem mtc_X3_check (l : Launch) (D : va_G) (ds : Nat → ClassId) (ad : Nat → Nat) (a0 : Int) (a1 : Int) (σ : ZS) (post : ZS → Prop) (h : wc_X3_check a0 a1 σ post) : ZMetV l (ΘC D ds ad) yX3_check cX3_check 6 3 46 0 0 [.ref (ad 35), .int (iz a0), .int (iz a1)] σ post := by
  refine ZMetV.of (by decide) (Nat.le_of_ble_eq_true rfl) (fun Γ X K hR => ?_)
  have X : ZX Γ cX3_check RX3 3 46 := X
  refine z_sub [0, 1, 2] (lv' := [(0, .ref (ad 35)), (1, .int (iz a0)), (2, .int (iz a1))]) rfl ?_
  refine z_iconst X 0 dX3_check_0 ?_
  refine z_istore_nK X K (lv' := [(3, .int (iz 0)), (0, .ref (ad 35)), (1, .int (iz a0)), (2, .int (iz a1))]) dX3_check_1 rfl rfl ?_
  obtain ⟨N, h⟩ := h
  exact z_sub [1, 2, 3, 0] rfl (wkc_X3_check_2 X K hR N _ _ _ _ h)
/- X3_isRight -/
set_option maxRecDepth 100000 in
theorem wkc_X3_isRight_77 {Γ : ZG} {l : Launch} {D : va_G} {ds : Nat → ClassId} {ad : Nat → Nat} {post : Int → ZS → Prop} (X : ZX Γ cX3_isRight RX3 3 46) (K : ZCap Γ l (ΘC D ds ad) 7 0 0) (hR : ZRetI Γ cX3_isRight .boolean 0 0 (fun r σ => (r = 0 ∨ r = 1) ∧ post r σ)) {C5 : Int × Int × Int × Int × ZS → Prop} (hC5 : ∀ (v1 : Int) (v2 : Int) (v3 : Int) (v4 : Int) (σ : ZS), C5 (v1, v2, v3, v4, σ) → Z Γ 0 0 σ [] 5 [(0, .ref (ad 35)), (1, .int (iz v1)), (2, .int (iz v2)), (3, .int (iz v3)), (4, .int (iz v4))] []) (v1 : Int) (v2 : Int) (v4 : Int) (t0 : Int) (σ : ZS) (h : wc_X3_isRight_77 C5 post v1 v2 v4 t0 σ) : Z Γ 0 0 σ [] 77 [(0, .ref (ad 35)), (1, .int (iz v1)), (2, .int (iz v2)), (4, .int (iz v4))] [.int (iz t0)] := by
  refine z_istore_nK X K (lv' := [(3, .int (iz t0)), (0, .ref (ad 35)), (1, .int (iz v1)), (2, .int (iz v2)), (4, .int (iz v4))]) dX3_isRight_77 rfl rfl ?_
  refine z_iincK X K 4 (lv' := [(4, .int (iz (v4 + 1))), (3, .int (iz t0)), (0, .ref (ad 35)), (1, .int (iz v1)), (2, .int (iz v2))]) dX3_isRight_78 rfl rfl rfl ?_
  refine z_goto (tgt := 5) X dX3_isRight_81 rfl ?_
  exact z_sub [2, 3, 4, 1, 0] rfl (hC5 _ _ _ _ _ h)
set_option maxRecDepth 100000 in
theorem wkc_X3_isRight_76 {Γ : ZG} {l : Launch} {D : va_G} {ds : Nat → ClassId} {ad : Nat → Nat} {post : Int → ZS → Prop} (X : ZX Γ cX3_isRight RX3 3 46) (K : ZCap Γ l (ΘC D ds ad) 7 0 0) (hR : ZRetI Γ cX3_isRight .boolean 0 0 (fun r σ => (r = 0 ∨ r = 1) ∧ post r σ)) {C5 : Int × Int × Int × Int × ZS → Prop} (hC5 : ∀ (v1 : Int) (v2 : Int) (v3 : Int) (v4 : Int) (σ : ZS), C5 (v1, v2, v3, v4, σ) → Z Γ 0 0 σ [] 5 [(0, .ref (ad 35)), (1, .int (iz v1)), (2, .int (iz v2)), (3, .int (iz v3)), (4, .int (iz v4))] []) (v1 : Int) (v2 : Int) (v4 : Int) (σ : ZS) (h : wc_X3_isRight_76 C5 post v1 v2 v4 σ) : Z Γ 0 0 σ [] 76 [(0, .ref (ad 35)), (1, .int (iz v1)), (2, .int (iz v2)), (4, .int (iz v4))] [] := by
  refine z_iconst X 0 dX3_isRight_76 ?_
  exact z_sub [0, 1, 2, 3] rfl (wkc_X3_isRight_77 X K hR hC5 _ _ _ _ _ h)
set_option maxRecDepth 100000 in
theorem wkc_X3_isRight_17 {Γ : ZG} {l : Launch} {D : va_G} {ds : Nat → ClassId} {ad : Nat → Nat} {post : Int → ZS → Prop} (X : ZX Γ cX3_isRight RX3 3 46) (K : ZCap Γ l (ΘC D ds ad) 7 0 0) (hR : ZRetI Γ cX3_isRight .boolean 0 0 (fun r σ => (r = 0 ∨ r = 1) ∧ post r σ)) {C5 : Int × Int × Int × Int × ZS → Prop} (hC5 : ∀ (v1 : Int) (v2 : Int) (v3 : Int) (v4 : Int) (σ : ZS), C5 (v1, v2, v3, v4, σ) → Z Γ 0 0 σ [] 5 [(0, .ref (ad 35)), (1, .int (iz v1)), (2, .int (iz v2)), (3, .int (iz v3)), (4, .int (iz v4))] []) : ∀ (N : Nat) (v1 : Int) (v2 : Int) (v3 : Int) (v4 : Int) (v5 : Int) (v6 : Int) (σ : ZS), zfix (wbc_X3_isRight_17 C5 post) N (v1, v2, v3, v4, v5, v6, σ) → Z Γ 0 0 σ [] 17 [(0, .ref (ad 35)), (1, .int (iz v1)), (2, .int (iz v2)), (3, .int (iz v3)), (4, .int (iz v4)), (5, .int (iz v5)), (6, .int (iz v6))] [] := by
  intro N
  induction N with
  | zero => intro v1 v2 v3 v4 v5 v6 σ h; exact False.elim h
  | succ N ih =>
    intro v1 v2 v3 v4 v5 v6 σ h
    have h : wbc_X3_isRight_17 C5 post (zfix (wbc_X3_isRight_17 C5 post) N) (v1, v2, v3, v4, v5, v6, σ) := h
    have hC17 := ih
    clear ih
    generalize zfix (wbc_X3_isRight_17 C5 post) N = C17 at h hC17
    dsimp only [wbc_X3_isRight_17] at h
    refine z_iload X 6 dX3_isRight_17 rfl ?_
    refine z_iload_n X 1 dX3_isRight_19 rfl ?_
    obtain ⟨i1, h⟩ := h
    obtain ⟨i2, h⟩ := h
    refine z_icmp_ge X 54 dX3_isRight_20 rfl i1 i2 (fun c3 => ?_) (fun c3 => ?_)
    · have h := h.1 c3
      refine z_aload_n X 0 dX3_isRight_54 rfl ?_
      refine gC_X3_24_X3 X K dX3_isRight_55 ?_
      refine z_iload X 4 dX3_isRight_58 rfl ?_
      refine z_iload X 5 dX3_isRight_60 rfl ?_
      obtain ⟨x4, h⟩ := h
      refine z_ast' X K 40 (Nat.le_of_ble_eq_true rfl) rfl rfl (Nat.le_of_ble_eq_true rfl) dX3_isRight_62 x4 (fun σ5 eσ5 => ?_)
      have h := h σ5 eσ5
      refine z_iload_n X 3 dX3_isRight_63 rfl ?_
      obtain ⟨i6, h⟩ := h
      refine z_if_eq X 76 dX3_isRight_64 rfl i6 (fun c7 => ?_) (fun c7 => ?_)
      · have h := h.1 c7
        exact z_sub [0, 1, 2, 4] rfl (wkc_X3_isRight_76 X K hR hC5 _ _ _ _ h)
      · have h := h.2 c7
        refine z_iload X 5 dX3_isRight_67 rfl ?_
        obtain ⟨i8, h⟩ := h
        refine z_if_ne X 76 dX3_isRight_69 rfl i8 (fun c9 => ?_) (fun c9 => ?_)
        · have h := h.1 c9
          exact z_sub [0, 1, 2, 4] rfl (wkc_X3_isRight_76 X K hR hC5 _ _ _ _ h)
        · have h := h.2 c9
          refine z_iconst X 1 dX3_isRight_72 ?_
          refine z_goto (tgt := 77) X dX3_isRight_73 rfl ?_
          exact z_sub [0, 1, 2, 4] rfl (wkc_X3_isRight_77 X K hR hC5 _ _ _ _ _ h)
    · have h := h.2 c3
      refine z_aload_n X 0 dX3_isRight_23 rfl ?_
      refine z_iload X 5 dX3_isRight_24 rfl ?_
      refine z_aload_n X 0 dX3_isRight_26 rfl ?_
      refine gC_X3_9_X3 X K dX3_isRight_27 ?_
      refine z_iload X 4 dX3_isRight_30 rfl ?_
      refine z_iconst X 1 dX3_isRight_32 ?_
      refine z_iadd X dX3_isRight_33 ?_
      obtain ⟨x10, h⟩ := h
      refine z_ald' X K 36 (Nat.le_of_ble_eq_true rfl) rfl rfl (Nat.le_of_ble_eq_true rfl) dX3_isRight_34 x10 ?_
      refine clc_X3_39 X K rfl h (Nat.le_of_ble_eq_true rfl) dX3_isRight_35 ⟨Nat.zero_le _, Nat.zero_le _⟩ (fun r12 σ11 h => ?_)
      refine z_aload_n X 0 dX3_isRight_38 rfl ?_
      refine gC_X3_21_X3 X K dX3_isRight_39 ?_
      refine z_iload X 6 dX3_isRight_42 rfl ?_
      obtain ⟨x13, h⟩ := h
      refine z_ald' X K 39 (Nat.le_of_ble_eq_true rfl) rfl rfl (Nat.le_of_ble_eq_true rfl) dX3_isRight_44 x13 ?_
      refine z_ixor X dX3_isRight_45 ?_
      refine z_topi (fun v5_14 ev5_14 => ?_)
      have h := h v5_14 ev5_14
      refine z_istoreK X K (lv' := [(5, .int (iz v5_14)), (0, .ref (ad 35)), (1, .int (iz v1)), (2, .int (iz v2)), (3, .int (iz v3)), (4, .int (iz v4)), (6, .int (iz v6))]) dX3_isRight_46 rfl rfl ?_
      refine z_iincK X K 6 (lv' := [(6, .int (iz (v6 + 1))), (5, .int (iz v5_14)), (0, .ref (ad 35)), (1, .int (iz v1)), (2, .int (iz v2)), (3, .int (iz v3)), (4, .int (iz v4))]) dX3_isRight_48 rfl rfl rfl ?_
      refine z_goto (tgt := 17) X dX3_isRight_51 rfl ?_
      exact z_sub [2, 3, 4, 5, 6, 1, 0] rfl (hC17 _ _ _ _ _ _ _ h)
set_option maxRecDepth 100000 in
theorem wkc_X3_isRight_5 {Γ : ZG} {l : Launch} {D : va_G} {ds : Nat → ClassId} {ad : Nat → Nat} {post : Int → ZS → Prop} (X : ZX Γ cX3_isRight RX3 3 46) (K : ZCap Γ l (ΘC D ds ad) 7 0 0) (hR : ZRetI Γ cX3_isRight .boolean 0 0 (fun r σ => (r = 0 ∨ r = 1) ∧ post r σ)) : ∀ (N : Nat) (v1 : Int) (v2 : Int) (v3 : Int) (v4 : Int) (σ : ZS), zfix (wbc_X3_isRight_5 post) N (v1, v2, v3, v4, σ) → Z Γ 0 0 σ [] 5 [(0, .ref (ad 35)), (1, .int (iz v1)), (2, .int (iz v2)), (3, .int (iz v3)), (4, .int (iz v4))] [] := by
  intro N
  induction N with
  | zero => intro v1 v2 v3 v4 σ h; exact False.elim h
  | succ N ih =>
    intro v1 v2 v3 v4 σ h
    have h : wbc_X3_isRight_5 post (zfix (wbc_X3_isRight_5 post) N) (v1, v2, v3, v4, σ) := h
    have hC5 := ih
    clear ih
    generalize zfix (wbc_X3_isRight_5 post) N = C5 at h hC5
    dsimp only [wbc_X3_isRight_5] at h
    refine z_iload X 4 dX3_isRight_5 rfl ?_
    refine z_iload_n X 2 dX3_isRight_7 rfl ?_
    obtain ⟨i1, h⟩ := h
    obtain ⟨i2, h⟩ := h
    refine z_icmp_ge X 84 dX3_isRight_8 rfl i1 i2 (fun c3 => ?_) (fun c3 => ?_)
    · have h := h.1 c3
      refine z_iload_n X 3 dX3_isRight_84 rfl ?_
      obtain ⟨b4, h⟩ := h
      exact hR _ _ _ _ _ _ _ dX3_isRight_85 (z_nb b4) (Nat.le_refl 0) (Nat.le_refl 0) ⟨b4, h⟩
    · have h := h.2 c3
      refine z_iconst X 0 dX3_isRight_11 ?_
      refine z_istoreK X K (lv' := [(5, .int (iz 0)), (0, .ref (ad 35)), (1, .int (iz v1)), (2, .int (iz v2)), (3, .int (iz v3)), (4, .int (iz v4))]) dX3_isRight_12 rfl rfl ?_
      refine z_iconst X 0 dX3_isRight_14 ?_
      refine z_istoreK X K (lv' := [(6, .int (iz 0)), (5, .int (iz 0)), (0, .ref (ad 35)), (1, .int (iz v1)), (2, .int (iz v2)), (3, .int (iz v3)), (4, .int (iz v4))]) dX3_isRight_15 rfl rfl ?_
      obtain ⟨N, h⟩ := h
      exact z_sub [2, 3, 4, 5, 6, 1, 0] rfl (wkc_X3_isRight_17 X K hR hC5 N _ _ _ _ _ _ _ h)
set_option maxRecDepth 100000 in
theorem mtc_X3_isRight (l : Launch) (D : va_G) (ds : Nat → ClassId) (ad : Nat → Nat) (a0 : Int) (a1 : Int) (σ : ZS) (post : Int → ZS → Prop) (h : wc_X3_isRight a0 a1 σ post) : ZMetI l (ΘC D ds ad) yX3_isRight cX3_isRight 7 .boolean 3 46 0 0 [.ref (ad 35), .int (iz a0), .int (iz a1)] σ (fun r σ => (r = 0 ∨ r = 1) ∧ post r σ) := by
  refine ZMetI.of (by decide) (Nat.le_of_ble_eq_true rfl) (fun Γ X K hR => ?_)
  have X : ZX Γ cX3_isRight RX3 3 46 := X
  refine z_sub [0, 1, 2] (lv' := [(0, .ref (ad 35)), (1, .int (iz a0)), (2, .int (iz a1))]) rfl ?_
  refine z_iconst X 1 dX3_isRight_0 ?_
  refine z_istore_nK X K (lv' := [(3, .int (iz 1)), (0, .ref (ad 35)), (1, .int (iz a0)), (2, .int (iz a1))]) dX3_isRight_1 rfl rfl ?_
  refine z_iconst X 0 dX3_isRight_2 ?_
  refine z_istoreK X K (lv' := [(4, .int (iz 0)), (3, .int (iz 1)), (0, .ref (ad 35)), (1, .int (iz a0)), (2, .int (iz a1))]) dX3_isRight_3 rfl rfl ?_
  obtain ⟨N, h⟩ := h
  exact z_sub [2, 3, 4, 1, 0] rfl (wkc_X3_isRight_5 X K hR N _ _ _ _ _ h)
/- X3_locator -/
theorem clc_X3_54 {Γ : ZG} {cc : ByteArray} {fr lo nL mc0 ms0 k n pc : Nat} {xs : va_W} {lv : List (Nat × Value)} {st : List Value} {l : Launch} {D : va_G} {ds : Nat → ClassId} {ad : Nat → Nat} {a0 : Int} {a1 : Int} {σ : ZS} {post : Int → ZS → Prop} (X : ZX Γ cc RX3 fr lo) (K : ZCap Γ l (ΘC D ds ad) nL mc0 ms0) (hrm : zroom 3 46 fr lo = true) (h : wc_X3_over a0 a1 σ post) (hst : (st.map fun v => v.category).sum ≤ 8) (d : decode cc pc = .ok (.invokevirtual 54, 3)) (hcs : k ≤ mc0 ∧ n ≤ ms0) (kk : ∀ (r : Int) (σ' : ZS), post r σ' → Z Γ k n σ' xs (pc + 3) lv (.int (iz r) :: st)) : Z Γ k n σ xs pc lv (.int (iz a1) :: .int (iz a0) :: .ref (ad 35) :: st) := 
  z_callVI' (C := RX3) (q0 := 35) X K (mtc_X3_over l D ds ad a0 a1 σ post h) (Nat.le_of_ble_eq_true rfl) rfl rfl rfl (lw_V q1127 q1129 qs37 q110 q1130) ⟨rfl, by decide, by decide, rfl⟩ (zroom_of (zroom_le hrm (by decide))) ⟨by rw [K.2.2.2.1]; exact hcs.1, by rw [K.2.2.2.2]; exact hcs.2⟩ hst d rfl kk
set_option maxRecDepth 100000 in
theorem wkc_X3_locator_234 {Γ : ZG} {l : Launch} {D : va_G} {ds : Nat → ClassId} {ad : Nat → Nat} {post : Int → ZS → Prop} (X : ZX Γ cX3_locator RX3 3 46) (K : ZCap Γ l (ΘC D ds ad) 10 0 0) (hR : ZRetI Γ cX3_locator .int 0 0 post) {C57 : Int × Int × Int × Int × Int × ZS → Prop} (hC57 : ∀ (v1 : Int) (v2 : Int) (v3 : Int) (v4 : Int) (v5 : Int) (σ : ZS), C57 (v1, v2, v3, v4, v5, σ) → Z Γ 0 0 σ [] 57 [(0, .ref (ad 35)), (1, .int (iz v1)), (2, .int (iz v2)), (3, .int (iz v3)), (4, .int (iz v4)), (5, .int (iz v5))] []) : ∀ (N : Nat) (v1 : Int) (v2 : Int) (v5 : Int) (v6 : Int) (v9 : Int) (σ : ZS), zfix (wbc_X3_locator_234 C57 post) N (v1, v2, v5, v6, v9, σ) → Z Γ 0 0 σ [] 234 [(0, .ref (ad 35)), (1, .int (iz v1)), (2, .int (iz v2)), (5, .int (iz v5)), (6, .int (iz v6)), (9, .int (iz v9))] [] := by
  intro N
  induction N with
  | zero => intro v1 v2 v5 v6 v9 σ h; exact False.elim h
  | succ N ih =>
    intro v1 v2 v5 v6 v9 σ h
    have h : wbc_X3_locator_234 C57 post (zfix (wbc_X3_locator_234 C57 post) N) (v1, v2, v5, v6, v9, σ) := h
    have hC234 := ih
    clear ih
    generalize zfix (wbc_X3_locator_234 C57 post) N = C234 at h hC234
    dsimp only [wbc_X3_locator_234] at h
    refine z_iload X 5 dX3_locator_234 rfl ?_
    refine z_aload_n X 0 dX3_locator_236 rfl ?_
    refine gC_X3_27_X3 X K dX3_locator_237 ?_
    refine z_alen' X K 41 (Nat.le_of_ble_eq_true rfl) rfl rfl rfl dX3_locator_240 ?_
    obtain ⟨i1, h⟩ := h
    refine z_icmp_ge X 264 dX3_locator_241 rfl i1 (by decide) (fun c2 => ?_) (fun c2 => ?_)
    · have h := h.1 c2
      refine z_iload X 3 dX3_locator_264 rfl ?_
      refine z_iconst X 1 dX3_locator_266 ?_
      refine z_iadd X dX3_locator_267 ?_
      refine z_iload_n X 2 dX3_locator_268 rfl ?_
      refine z_isub X dX3_locator_269 ?_
      refine z_topi (fun v2_3 ev2_3 => ?_)
      have h := h v2_3 ev2_3
      refine z_istore_nK X K (lv' := [(2, .int (iz v2_3)), (0, .ref (ad 35)), (1, .int (iz v1)), (5, .int (iz v5)), (6, .int (iz v6)), (9, .int (iz v9))]) dX3_locator_270 rfl rfl ?_
      refine z_iload X 4 dX3_locator_271 rfl ?_
      refine z_istoreK X K (lv' := [(4, .int (iz v6)), (2, .int (iz v2_3)), (0, .ref (ad 35)), (1, .int (iz v1)), (5, .int (iz v5)), (6, .int (iz v6)), (9, .int (iz v9))]) dX3_locator_273 rfl rfl ?_
      refine z_iconst X 1 dX3_locator_275 ?_
      refine z_istore_nK X K (lv' := [(3, .int (iz 1)), (4, .int (iz v6)), (2, .int (iz v2_3)), (0, .ref (ad 35)), (1, .int (iz v1)), (5, .int (iz v5)), (6, .int (iz v6)), (9, .int (iz v9))]) dX3_locator_276 rfl rfl ?_
      refine z_goto (tgt := 283) X dX3_locator_277 rfl ?_
      refine z_iincK X K 5 (lv' := [(5, .int (iz (v5 + 1))), (3, .int (iz 1)), (4, .int (iz v6)), (2, .int (iz v2_3)), (0, .ref (ad 35)), (1, .int (iz v1)), (6, .int (iz v6)), (9, .int (iz v9))]) dX3_locator_283 rfl rfl rfl ?_
      refine z_goto (tgt := 57) X dX3_locator_286 rfl ?_
      exact z_sub [4, 5, 3, 1, 2, 0] rfl (hC57 _ _ _ _ _ _ h)
    · have h := h.2 c2
      refine z_aload_n X 0 dX3_locator_244 rfl ?_
      refine gC_X3_30_X3 X K dX3_locator_245 ?_
      refine z_iload X 5 dX3_locator_248 rfl ?_
      refine z_aload_n X 0 dX3_locator_250 rfl ?_
      refine gC_X3_33_X3 X K dX3_locator_251 ?_
      refine z_iload X 5 dX3_locator_254 rfl ?_
      obtain ⟨x4, h⟩ := h
      refine z_ald' X K 43 (Nat.le_of_ble_eq_true rfl) rfl rfl (Nat.le_of_ble_eq_true rfl) dX3_locator_256 x4 ?_
      refine z_ast' X K 42 (Nat.le_of_ble_eq_true rfl) rfl rfl (Nat.le_of_ble_eq_true rfl) dX3_locator_257 x4 (fun σ5 eσ5 => ?_)
      have h := h σ5 eσ5
      refine z_iincK X K 5 (lv' := [(9, .int (iz (v9 + 1))), (0, .ref (ad 35)), (1, .int (iz v1)), (2, .int (iz v2)), (5, .int (iz v5)), (6, .int (iz v6))]) dX3_locator_258 rfl rfl rfl ?_
      refine z_goto (tgt := 234) X dX3_locator_261 rfl ?_
      exact z_sub [1, 2, 3, 4, 5, 0] rfl (hC234 _ _ _ _ _ _ h)
set_option maxRecDepth 100000 in
theorem wkc_X3_locator_185 {Γ : ZG} {l : Launch} {D : va_G} {ds : Nat → ClassId} {ad : Nat → Nat} {post : Int → ZS → Prop} (X : ZX Γ cX3_locator RX3 3 46) (K : ZCap Γ l (ΘC D ds ad) 10 0 0) (hR : ZRetI Γ cX3_locator .int 0 0 post) {C57 : Int × Int × Int × Int × Int × ZS → Prop} (hC57 : ∀ (v1 : Int) (v2 : Int) (v3 : Int) (v4 : Int) (v5 : Int) (σ : ZS), C57 (v1, v2, v3, v4, v5, σ) → Z Γ 0 0 σ [] 57 [(0, .ref (ad 35)), (1, .int (iz v1)), (2, .int (iz v2)), (3, .int (iz v3)), (4, .int (iz v4)), (5, .int (iz v5))] []) : ∀ (N : Nat) (v1 : Int) (v2 : Int) (v3 : Int) (v4 : Int) (v5 : Int) (v6 : Int) (v7 : Int) (v8 : Int) (v9 : Int) (σ : ZS), zfix (wbc_X3_locator_185 C57 post) N (v1, v2, v3, v4, v5, v6, v7, v8, v9, σ) → Z Γ 0 0 σ [] 185 [(0, .ref (ad 35)), (1, .int (iz v1)), (2, .int (iz v2)), (3, .int (iz v3)), (4, .int (iz v4)), (5, .int (iz v5)), (6, .int (iz v6)), (7, .int (iz v7)), (8, .int (iz v8)), (9, .int (iz v9))] [] := by
  intro N
  induction N with
  | zero => intro v1 v2 v3 v4 v5 v6 v7 v8 v9 σ h; exact False.elim h
  | succ N ih =>
    intro v1 v2 v3 v4 v5 v6 v7 v8 v9 σ h
    have h : wbc_X3_locator_185 C57 post (zfix (wbc_X3_locator_185 C57 post) N) (v1, v2, v3, v4, v5, v6, v7, v8, v9, σ) := h
    have hC185 := ih
    clear ih
    generalize zfix (wbc_X3_locator_185 C57 post) N = C185 at h hC185
    dsimp only [wbc_X3_locator_185] at h
    refine z_iload X 9 dX3_locator_185 rfl ?_
    refine z_aload_n X 0 dX3_locator_187 rfl ?_
    refine gC_X3_27_X3 X K dX3_locator_188 ?_
    refine z_alen' X K 41 (Nat.le_of_ble_eq_true rfl) rfl rfl rfl dX3_locator_191 ?_
    obtain ⟨i1, h⟩ := h
    refine z_icmp_ge X 226 dX3_locator_192 rfl i1 (by decide) (fun c2 => ?_) (fun c2 => ?_)
    · have h := h.1 c2
      refine z_iload X 8 dX3_locator_226 rfl ?_
      obtain ⟨i3, h⟩ := h
      refine z_if_eq X 280 dX3_locator_228 rfl i3 (fun c4 => ?_) (fun c4 => ?_)
      · have h := h.1 c4
        refine z_iincK X K 3 (lv' := [(3, .int (iz (v3 + 1))), (0, .ref (ad 35)), (1, .int (iz v1)), (2, .int (iz v2)), (4, .int (iz v4)), (5, .int (iz v5)), (6, .int (iz v6)), (7, .int (iz v7)), (8, .int (iz v8)), (9, .int (iz v9))]) dX3_locator_280 rfl rfl rfl ?_
        refine z_iincK X K 5 (lv' := [(5, .int (iz (v5 + 1))), (3, .int (iz (v3 + 1))), (0, .ref (ad 35)), (1, .int (iz v1)), (2, .int (iz v2)), (4, .int (iz v4)), (6, .int (iz v6)), (7, .int (iz v7)), (8, .int (iz v8)), (9, .int (iz v9))]) dX3_locator_283 rfl rfl rfl ?_
        refine z_goto (tgt := 57) X dX3_locator_286 rfl ?_
        exact z_sub [2, 3, 4, 1, 5, 0] rfl (hC57 _ _ _ _ _ _ h)
      · have h := h.2 c4
        refine z_iconst X 0 dX3_locator_231 ?_
        refine z_istoreK X K (lv' := [(9, .int (iz 0)), (0, .ref (ad 35)), (1, .int (iz v1)), (2, .int (iz v2)), (3, .int (iz v3)), (4, .int (iz v4)), (5, .int (iz v5)), (6, .int (iz v6)), (7, .int (iz v7)), (8, .int (iz v8))]) dX3_locator_232 rfl rfl ?_
        obtain ⟨N, h⟩ := h
        exact z_sub [1, 2, 3, 6, 7, 0] rfl (wkc_X3_locator_234 X K hR hC57 N _ _ _ _ _ _ h)
    · have h := h.2 c2
      refine z_aload_n X 0 dX3_locator_195 rfl ?_
      refine gC_X3_27_X3 X K dX3_locator_196 ?_
      refine z_iload X 9 dX3_locator_199 rfl ?_
      refine z_dup2 X dX3_locator_201 rfl rfl ?_
      obtain ⟨x5, h⟩ := h
      refine z_ald' X K 41 (Nat.le_of_ble_eq_true rfl) rfl rfl (Nat.le_of_ble_eq_true rfl) dX3_locator_202 x5 ?_
      refine z_aload_n X 0 dX3_locator_203 rfl ?_
      refine z_iload X 7 dX3_locator_204 rfl ?_
      refine z_aload_n X 0 dX3_locator_206 rfl ?_
      refine gC_X3_30_X3 X K dX3_locator_207 ?_
      refine z_iload X 9 dX3_locator_210 rfl ?_
      refine z_iload_n X 3 dX3_locator_212 rfl ?_
      refine z_isub X dX3_locator_213 ?_
      obtain ⟨x6, h⟩ := h
      refine z_ald' X K 42 (Nat.le_of_ble_eq_true rfl) rfl rfl (Nat.le_of_ble_eq_true rfl) dX3_locator_214 x6 ?_
      refine clc_X3_39 X K rfl h (Nat.le_of_ble_eq_true rfl) dX3_locator_215 ⟨Nat.zero_le _, Nat.zero_le _⟩ (fun r8 σ7 h => ?_)
      refine z_ixor X dX3_locator_218 ?_
      refine z_ast' X K 41 (Nat.le_of_ble_eq_true rfl) rfl rfl (Nat.le_of_ble_eq_true rfl) dX3_locator_219 x5 (fun σ9 eσ9 => ?_)
      have h := h σ9 eσ9
      refine z_iincK X K 9 (lv' := [(9, .int (iz (v9 + 1))), (0, .ref (ad 35)), (1, .int (iz v1)), (2, .int (iz v2)), (3, .int (iz v3)), (4, .int (iz v4)), (5, .int (iz v5)), (6, .int (iz v6)), (7, .int (iz v7)), (8, .int (iz v8))]) dX3_locator_220 rfl rfl rfl ?_
      refine z_goto (tgt := 185) X dX3_locator_223 rfl ?_
      exact z_sub [1, 2, 3, 4, 5, 6, 7, 8, 9, 0] rfl (hC185 _ _ _ _ _ _ _ _ _ _ h)
set_option maxRecDepth 100000 in
theorem wkc_X3_locator_152 {Γ : ZG} {l : Launch} {D : va_G} {ds : Nat → ClassId} {ad : Nat → Nat} {post : Int → ZS → Prop} (X : ZX Γ cX3_locator RX3 3 46) (K : ZCap Γ l (ΘC D ds ad) 10 0 0) (hR : ZRetI Γ cX3_locator .int 0 0 post) {C57 : Int × Int × Int × Int × Int × ZS → Prop} (hC57 : ∀ (v1 : Int) (v2 : Int) (v3 : Int) (v4 : Int) (v5 : Int) (σ : ZS), C57 (v1, v2, v3, v4, v5, σ) → Z Γ 0 0 σ [] 57 [(0, .ref (ad 35)), (1, .int (iz v1)), (2, .int (iz v2)), (3, .int (iz v3)), (4, .int (iz v4)), (5, .int (iz v5))] []) : ∀ (N : Nat) (v1 : Int) (v2 : Int) (v3 : Int) (v4 : Int) (v5 : Int) (v6 : Int) (v7 : Int) (v8 : Int) (v9 : Int) (σ : ZS), zfix (wbc_X3_locator_152 C57 post) N (v1, v2, v3, v4, v5, v6, v7, v8, v9, σ) → Z Γ 0 0 σ [] 152 [(0, .ref (ad 35)), (1, .int (iz v1)), (2, .int (iz v2)), (3, .int (iz v3)), (4, .int (iz v4)), (5, .int (iz v5)), (6, .int (iz v6)), (7, .int (iz v7)), (8, .int (iz v8)), (9, .int (iz v9))] [] := by
  intro N
  induction N with
  | zero => intro v1 v2 v3 v4 v5 v6 v7 v8 v9 σ h; exact False.elim h
  | succ N ih =>
    intro v1 v2 v3 v4 v5 v6 v7 v8 v9 σ h
    have h : wbc_X3_locator_152 C57 post (zfix (wbc_X3_locator_152 C57 post) N) (v1, v2, v3, v4, v5, v6, v7, v8, v9, σ) := h
    have hC152 := ih
    clear ih
    generalize zfix (wbc_X3_locator_152 C57 post) N = C152 at h hC152
    dsimp only [wbc_X3_locator_152] at h
    refine z_iload X 9 dX3_locator_152 rfl ?_
    refine z_aload_n X 0 dX3_locator_154 rfl ?_
    refine gC_X3_27_X3 X K dX3_locator_155 ?_
    refine z_alen' X K 41 (Nat.le_of_ble_eq_true rfl) rfl rfl rfl dX3_locator_158 ?_
    obtain ⟨i1, h⟩ := h
    refine z_icmp_ge X 182 dX3_locator_159 rfl i1 (by decide) (fun c2 => ?_) (fun c2 => ?_)
    · have h := h.1 c2
      refine z_iload_n X 3 dX3_locator_182 rfl ?_
      refine z_istoreK X K (lv' := [(9, .int (iz v3)), (0, .ref (ad 35)), (1, .int (iz v1)), (2, .int (iz v2)), (3, .int (iz v3)), (4, .int (iz v4)), (5, .int (iz v5)), (6, .int (iz v6)), (7, .int (iz v7)), (8, .int (iz v8))]) dX3_locator_183 rfl rfl ?_
      obtain ⟨N, h⟩ := h
      exact z_sub [1, 2, 3, 4, 5, 6, 7, 8, 9, 0] rfl (wkc_X3_locator_185 X K hR hC57 N _ _ _ _ _ _ _ _ _ _ h)
    · have h := h.2 c2
      refine z_aload_n X 0 dX3_locator_162 rfl ?_
      refine gC_X3_33_X3 X K dX3_locator_163 ?_
      refine z_iload X 9 dX3_locator_166 rfl ?_
      refine z_aload_n X 0 dX3_locator_168 rfl ?_
      refine gC_X3_27_X3 X K dX3_locator_169 ?_
      refine z_iload X 9 dX3_locator_172 rfl ?_
      obtain ⟨x3, h⟩ := h
      refine z_ald' X K 41 (Nat.le_of_ble_eq_true rfl) rfl rfl (Nat.le_of_ble_eq_true rfl) dX3_locator_174 x3 ?_
      refine z_ast' X K 43 (Nat.le_of_ble_eq_true rfl) rfl rfl (Nat.le_of_ble_eq_true rfl) dX3_locator_175 x3 (fun σ4 eσ4 => ?_)
      have h := h σ4 eσ4
      refine z_iincK X K 9 (lv' := [(9, .int (iz (v9 + 1))), (0, .ref (ad 35)), (1, .int (iz v1)), (2, .int (iz v2)), (3, .int (iz v3)), (4, .int (iz v4)), (5, .int (iz v5)), (6, .int (iz v6)), (7, .int (iz v7)), (8, .int (iz v8))]) dX3_locator_176 rfl rfl rfl ?_
      refine z_goto (tgt := 152) X dX3_locator_179 rfl ?_
      exact z_sub [1, 2, 3, 4, 5, 6, 7, 8, 9, 0] rfl (hC152 _ _ _ _ _ _ _ _ _ _ h)
set_option maxRecDepth 100000 in
theorem wkc_X3_locator_147 {Γ : ZG} {l : Launch} {D : va_G} {ds : Nat → ClassId} {ad : Nat → Nat} {post : Int → ZS → Prop} (X : ZX Γ cX3_locator RX3 3 46) (K : ZCap Γ l (ΘC D ds ad) 10 0 0) (hR : ZRetI Γ cX3_locator .int 0 0 post) {C57 : Int × Int × Int × Int × Int × ZS → Prop} (hC57 : ∀ (v1 : Int) (v2 : Int) (v3 : Int) (v4 : Int) (v5 : Int) (σ : ZS), C57 (v1, v2, v3, v4, v5, σ) → Z Γ 0 0 σ [] 57 [(0, .ref (ad 35)), (1, .int (iz v1)), (2, .int (iz v2)), (3, .int (iz v3)), (4, .int (iz v4)), (5, .int (iz v5))] []) (v1 : Int) (v2 : Int) (v3 : Int) (v4 : Int) (v5 : Int) (v6 : Int) (v7 : Int) (t0 : Int) (σ : ZS) (h : wc_X3_locator_147 C57 post v1 v2 v3 v4 v5 v6 v7 t0 σ) : Z Γ 0 0 σ [] 147 [(0, .ref (ad 35)), (1, .int (iz v1)), (2, .int (iz v2)), (3, .int (iz v3)), (4, .int (iz v4)), (5, .int (iz v5)), (6, .int (iz v6)), (7, .int (iz v7))] [.int (iz t0)] := by
  refine z_istoreK X K (lv' := [(8, .int (iz t0)), (0, .ref (ad 35)), (1, .int (iz v1)), (2, .int (iz v2)), (3, .int (iz v3)), (4, .int (iz v4)), (5, .int (iz v5)), (6, .int (iz v6)), (7, .int (iz v7))]) dX3_locator_147 rfl rfl ?_
  refine z_iconst X 0 dX3_locator_149 ?_
  refine z_istoreK X K (lv' := [(9, .int (iz 0)), (8, .int (iz t0)), (0, .ref (ad 35)), (1, .int (iz v1)), (2, .int (iz v2)), (3, .int (iz v3)), (4, .int (iz v4)), (5, .int (iz v5)), (6, .int (iz v6)), (7, .int (iz v7))]) dX3_locator_150 rfl rfl ?_
  obtain ⟨N, h⟩ := h
  exact z_sub [2, 3, 4, 5, 6, 7, 8, 9, 1, 0] rfl (wkc_X3_locator_152 X K hR hC57 N _ _ _ _ _ _ _ _ _ _ h)
set_option maxRecDepth 100000 in
theorem wkc_X3_locator_75 {Γ : ZG} {l : Launch} {D : va_G} {ds : Nat → ClassId} {ad : Nat → Nat} {post : Int → ZS → Prop} (X : ZX Γ cX3_locator RX3 3 46) (K : ZCap Γ l (ΘC D ds ad) 10 0 0) (hR : ZRetI Γ cX3_locator .int 0 0 post) {C57 : Int × Int × Int × Int × Int × ZS → Prop} (hC57 : ∀ (v1 : Int) (v2 : Int) (v3 : Int) (v4 : Int) (v5 : Int) (σ : ZS), C57 (v1, v2, v3, v4, v5, σ) → Z Γ 0 0 σ [] 57 [(0, .ref (ad 35)), (1, .int (iz v1)), (2, .int (iz v2)), (3, .int (iz v3)), (4, .int (iz v4)), (5, .int (iz v5))] []) : ∀ (N : Nat) (v1 : Int) (v2 : Int) (v3 : Int) (v4 : Int) (v5 : Int) (v6 : Int) (v7 : Int) (σ : ZS), zfix (wbc_X3_locator_75 C57 post) N (v1, v2, v3, v4, v5, v6, v7, σ) → Z Γ 0 0 σ [] 75 [(0, .ref (ad 35)), (1, .int (iz v1)), (2, .int (iz v2)), (3, .int (iz v3)), (4, .int (iz v4)), (5, .int (iz v5)), (6, .int (iz v6)), (7, .int (iz v7))] [] := by
  intro N
  induction N with
  | zero => intro v1 v2 v3 v4 v5 v6 v7 σ h; exact False.elim h
  | succ N ih =>
    intro v1 v2 v3 v4 v5 v6 v7 σ h
    have h : wbc_X3_locator_75 C57 post (zfix (wbc_X3_locator_75 C57 post) N) (v1, v2, v3, v4, v5, v6, v7, σ) := h
    have hC75 := ih
    clear ih
    generalize zfix (wbc_X3_locator_75 C57 post) N = C75 at h hC75
    dsimp only [wbc_X3_locator_75] at h
    refine z_iload X 7 dX3_locator_75 rfl ?_
    refine z_iload_n X 2 dX3_locator_77 rfl ?_
    obtain ⟨i1, h⟩ := h
    obtain ⟨i2, h⟩ := h
    refine z_icmp_gt X 113 dX3_locator_78 rfl i1 i2 (fun c3 => ?_) (fun c3 => ?_)
    · have h := h.1 c3
      refine z_iload X 6 dX3_locator_113 rfl ?_
      obtain ⟨i4, h⟩ := h
      refine z_if_ne X 124 dX3_locator_115 rfl i4 (fun c5 => ?_) (fun c5 => ?_)
      · have h := h.1 c5
        refine z_aload_n X 0 dX3_locator_124 rfl ?_
        refine z_iload X 6 dX3_locator_125 rfl ?_
        refine z_iload X 4 dX3_locator_127 rfl ?_
        refine clc_X3_54 X K rfl h (Nat.le_of_ble_eq_true rfl) dX3_locator_129 ⟨Nat.zero_le _, Nat.zero_le _⟩ (fun r7 σ6 h => ?_)
        refine z_istoreK X K (lv' := [(7, .int (iz r7)), (0, .ref (ad 35)), (1, .int (iz v1)), (2, .int (iz v2)), (3, .int (iz v3)), (4, .int (iz v4)), (5, .int (iz v5)), (6, .int (iz v6))]) dX3_locator_132 rfl rfl ?_
        refine z_iconst X 2 dX3_locator_134 ?_
        refine z_iload_n X 3 dX3_locator_135 rfl ?_
        refine z_imul X dX3_locator_136 ?_
        refine z_iload X 6 dX3_locator_137 rfl ?_
        obtain ⟨i8, h⟩ := h
        obtain ⟨i9, h⟩ := h
        refine z_icmp_gt X 146 dX3_locator_139 rfl i8 i9 (fun c10 => ?_) (fun c10 => ?_)
        · have h := h.1 c10
          refine z_iconst X 0 dX3_locator_146 ?_
          exact z_sub [1, 2, 3, 4, 5, 6, 7, 0] rfl (wkc_X3_locator_147 X K hR hC57 _ _ _ _ _ _ _ _ _ h)
        · have h := h.2 c10
          refine z_iconst X 1 dX3_locator_142 ?_
          refine z_goto (tgt := 147) X dX3_locator_143 rfl ?_
          exact z_sub [1, 2, 3, 4, 5, 6, 7, 0] rfl (wkc_X3_locator_147 X K hR hC57 _ _ _ _ _ _ _ _ _ h)
      · have h := h.2 c5
        refine z_iincK X K 3 (lv' := [(3, .int (iz (v3 + 1))), (0, .ref (ad 35)), (1, .int (iz v1)), (2, .int (iz v2)), (4, .int (iz v4)), (5, .int (iz v5)), (6, .int (iz v6)), (7, .int (iz v7))]) dX3_locator_118 rfl rfl rfl ?_
        refine z_goto (tgt := 283) X dX3_locator_121 rfl ?_
        refine z_iincK X K 5 (lv' := [(5, .int (iz (v5 + 1))), (3, .int (iz (v3 + 1))), (0, .ref (ad 35)), (1, .int (iz v1)), (2, .int (iz v2)), (4, .int (iz v4)), (6, .int (iz v6)), (7, .int (iz v7))]) dX3_locator_283 rfl rfl rfl ?_
        refine z_goto (tgt := 57) X dX3_locator_286 rfl ?_
        exact z_sub [2, 3, 4, 1, 5, 0] rfl (hC57 _ _ _ _ _ _ h)
    · have h := h.2 c3
      refine z_iload X 6 dX3_locator_81 rfl ?_
      refine z_aload_n X 0 dX3_locator_83 rfl ?_
      refine z_aload_n X 0 dX3_locator_84 rfl ?_
      refine gC_X3_27_X3 X K dX3_locator_85 ?_
      refine z_iload X 7 dX3_locator_88 rfl ?_
      obtain ⟨x11, h⟩ := h
      refine z_ald' X K 41 (Nat.le_of_ble_eq_true rfl) rfl rfl (Nat.le_of_ble_eq_true rfl) dX3_locator_90 x11 ?_
      refine z_aload_n X 0 dX3_locator_91 rfl ?_
      refine gC_X3_24_X3 X K dX3_locator_92 ?_
      refine z_iload X 5 dX3_locator_95 rfl ?_
      refine z_iload X 7 dX3_locator_97 rfl ?_
      refine z_isub X dX3_locator_99 ?_
      obtain ⟨x12, h⟩ := h
      refine z_ald' X K 40 (Nat.le_of_ble_eq_true rfl) rfl rfl (Nat.le_of_ble_eq_true rfl) dX3_locator_100 x12 ?_
      refine clc_X3_39 X K rfl h (Nat.le_of_ble_eq_true rfl) dX3_locator_101 ⟨Nat.zero_le _, Nat.zero_le _⟩ (fun r14 σ13 h => ?_)
      refine z_ixor X dX3_locator_104 ?_
      refine z_topi (fun v6_15 ev6_15 => ?_)
      have h := h v6_15 ev6_15
      refine z_istoreK X K (lv' := [(6, .int (iz v6_15)), (0, .ref (ad 35)), (1, .int (iz v1)), (2, .int (iz v2)), (3, .int (iz v3)), (4, .int (iz v4)), (5, .int (iz v5)), (7, .int (iz v7))]) dX3_locator_105 rfl rfl ?_
      refine z_iincK X K 7 (lv' := [(7, .int (iz (v7 + 1))), (6, .int (iz v6_15)), (0, .ref (ad 35)), (1, .int (iz v1)), (2, .int (iz v2)), (3, .int (iz v3)), (4, .int (iz v4)), (5, .int (iz v5))]) dX3_locator_107 rfl rfl rfl ?_
      refine z_goto (tgt := 75) X dX3_locator_110 rfl ?_
      exact z_sub [2, 3, 4, 5, 6, 7, 1, 0] rfl (hC75 _ _ _ _ _ _ _ _ h)
set_option maxRecDepth 100000 in
theorem wkc_X3_locator_57 {Γ : ZG} {l : Launch} {D : va_G} {ds : Nat → ClassId} {ad : Nat → Nat} {post : Int → ZS → Prop} (X : ZX Γ cX3_locator RX3 3 46) (K : ZCap Γ l (ΘC D ds ad) 10 0 0) (hR : ZRetI Γ cX3_locator .int 0 0 post) : ∀ (N : Nat) (v1 : Int) (v2 : Int) (v3 : Int) (v4 : Int) (v5 : Int) (σ : ZS), zfix (wbc_X3_locator_57 post) N (v1, v2, v3, v4, v5, σ) → Z Γ 0 0 σ [] 57 [(0, .ref (ad 35)), (1, .int (iz v1)), (2, .int (iz v2)), (3, .int (iz v3)), (4, .int (iz v4)), (5, .int (iz v5))] [] := by
  intro N
  induction N with
  | zero => intro v1 v2 v3 v4 v5 σ h; exact False.elim h
  | succ N ih =>
    intro v1 v2 v3 v4 v5 σ h
    have h : wbc_X3_locator_57 post (zfix (wbc_X3_locator_57 post) N) (v1, v2, v3, v4, v5, σ) := h
    have hC57 := ih
    clear ih
    generalize zfix (wbc_X3_locator_57 post) N = C57 at h hC57
    dsimp only [wbc_X3_locator_57] at h
    refine z_iload X 5 dX3_locator_57 rfl ?_
    refine z_iload_n X 1 dX3_locator_59 rfl ?_
    obtain ⟨i1, h⟩ := h
    obtain ⟨i2, h⟩ := h
    refine z_icmp_ge X 289 dX3_locator_60 rfl i1 i2 (fun c3 => ?_) (fun c3 => ?_)
    · have h := h.1 c3
      refine z_iload_n X 2 dX3_locator_289 rfl ?_
      exact hR _ _ _ _ _ _ _ dX3_locator_290 rfl (Nat.le_refl 0) (Nat.le_refl 0) h
    · have h := h.2 c3
      refine z_aload_n X 0 dX3_locator_63 rfl ?_
      refine gC_X3_24_X3 X K dX3_locator_64 ?_
      refine z_iload X 5 dX3_locator_67 rfl ?_
      obtain ⟨x4, h⟩ := h
      refine z_ald' X K 40 (Nat.le_of_ble_eq_true rfl) rfl rfl (Nat.le_of_ble_eq_true rfl) dX3_locator_69 x4 ?_
      refine z_topi (fun v6_5 ev6_5 => ?_)
      have h := h v6_5 ev6_5
      refine z_istoreK X K (lv' := [(6, .int (iz v6_5)), (0, .ref (ad 35)), (1, .int (iz v1)), (2, .int (iz v2)), (3, .int (iz v3)), (4, .int (iz v4)), (5, .int (iz v5))]) dX3_locator_70 rfl rfl ?_
      refine z_iconst X 1 dX3_locator_72 ?_
      refine z_istoreK X K (lv' := [(7, .int (iz 1)), (6, .int (iz v6_5)), (0, .ref (ad 35)), (1, .int (iz v1)), (2, .int (iz v2)), (3, .int (iz v3)), (4, .int (iz v4)), (5, .int (iz v5))]) dX3_locator_73 rfl rfl ?_
      obtain ⟨N, h⟩ := h
      exact z_sub [2, 3, 4, 5, 6, 7, 1, 0] rfl (wkc_X3_locator_75 X K hR hC57 N _ _ _ _ _ _ _ _ h)
set_option maxRecDepth 100000 in
theorem wkc_X3_locator_40 {Γ : ZG} {l : Launch} {D : va_G} {ds : Nat → ClassId} {ad : Nat → Nat} {post : Int → ZS → Prop} (X : ZX Γ cX3_locator RX3 3 46) (K : ZCap Γ l (ΘC D ds ad) 10 0 0) (hR : ZRetI Γ cX3_locator .int 0 0 post) {C2 : Int × Int × ZS → Prop} (hC2 : ∀ (v1 : Int) (v2 : Int) (σ : ZS), C2 (v1, v2, σ) → Z Γ 0 0 σ [] 2 [(0, .ref (ad 35)), (1, .int (iz v1)), (2, .int (iz v2))] []) (v1 : Int) (v2 : Int) (t0 : Int) (t1 : Int) (σ : ZS) (h : wc_X3_locator_40 C2 post v1 v2 t0 t1 σ) : Z Γ 0 0 σ [] 40 [(0, .ref (ad 35)), (1, .int (iz v1)), (2, .int (iz v2))] [.int (iz t0), .int (iz t1), .ref (ad 42)] := by
  obtain ⟨x1, h⟩ := h
  refine z_ast' X K 42 (Nat.le_of_ble_eq_true rfl) rfl rfl (Nat.le_of_ble_eq_true rfl) dX3_locator_40 x1 (fun σ2 eσ2 => ?_)
  have h := h σ2 eσ2
  refine z_iincK X K 2 (lv' := [(2, .int (iz (v2 + 1))), (0, .ref (ad 35)), (1, .int (iz v1))]) dX3_locator_41 rfl rfl rfl ?_
  refine z_goto (tgt := 2) X dX3_locator_44 rfl ?_
  exact z_sub [1, 2, 0] rfl (hC2 _ _ _ h)
set_option maxRecDepth 100000 in
theorem wkc_X3_locator_25 {Γ : ZG} {l : Launch} {D : va_G} {ds : Nat → ClassId} {ad : Nat → Nat} {post : Int → ZS → Prop} (X : ZX Γ cX3_locator RX3 3 46) (K : ZCap Γ l (ΘC D ds ad) 10 0 0) (hR : ZRetI Γ cX3_locator .int 0 0 post) {C2 : Int × Int × ZS → Prop} (hC2 : ∀ (v1 : Int) (v2 : Int) (σ : ZS), C2 (v1, v2, σ) → Z Γ 0 0 σ [] 2 [(0, .ref (ad 35)), (1, .int (iz v1)), (2, .int (iz v2))] []) (v1 : Int) (v2 : Int) (t0 : Int) (t1 : Int) (σ : ZS) (h : wc_X3_locator_25 C2 post v1 v2 t0 t1 σ) : Z Γ 0 0 σ [] 25 [(0, .ref (ad 35)), (1, .int (iz v1)), (2, .int (iz v2))] [.int (iz t0), .int (iz t1), .ref (ad 41)] := by
  obtain ⟨x1, h⟩ := h
  refine z_ast' X K 41 (Nat.le_of_ble_eq_true rfl) rfl rfl (Nat.le_of_ble_eq_true rfl) dX3_locator_25 x1 (fun σ2 eσ2 => ?_)
  have h := h σ2 eσ2
  refine z_aload_n X 0 dX3_locator_26 rfl ?_
  refine gC_X3_30_X3 X K dX3_locator_27 ?_
  refine z_iload_n X 2 dX3_locator_30 rfl ?_
  refine z_iload_n X 2 dX3_locator_31 rfl ?_
  obtain ⟨i3, h⟩ := h
  refine z_if_ne X 39 dX3_locator_32 rfl i3 (fun c4 => ?_) (fun c4 => ?_)
  · have h := h.1 c4
    refine z_iconst X 0 dX3_locator_39 ?_
    exact z_sub [0, 1, 2] rfl (wkc_X3_locator_40 X K hR hC2 _ _ _ _ _ h)
  · have h := h.2 c4
    refine z_iconst X 1 dX3_locator_35 ?_
    refine z_goto (tgt := 40) X dX3_locator_36 rfl ?_
    exact z_sub [0, 1, 2] rfl (wkc_X3_locator_40 X K hR hC2 _ _ _ _ _ h)
set_option maxRecDepth 100000 in
theorem wkc_X3_locator_2 {Γ : ZG} {l : Launch} {D : va_G} {ds : Nat → ClassId} {ad : Nat → Nat} {post : Int → ZS → Prop} (X : ZX Γ cX3_locator RX3 3 46) (K : ZCap Γ l (ΘC D ds ad) 10 0 0) (hR : ZRetI Γ cX3_locator .int 0 0 post) : ∀ (N : Nat) (v1 : Int) (v2 : Int) (σ : ZS), zfix (wbc_X3_locator_2 post) N (v1, v2, σ) → Z Γ 0 0 σ [] 2 [(0, .ref (ad 35)), (1, .int (iz v1)), (2, .int (iz v2))] [] := by
  intro N
  induction N with
  | zero => intro v1 v2 σ h; exact False.elim h
  | succ N ih =>
    intro v1 v2 σ h
    have h : wbc_X3_locator_2 post (zfix (wbc_X3_locator_2 post) N) (v1, v2, σ) := h
    have hC2 := ih
    clear ih
    generalize zfix (wbc_X3_locator_2 post) N = C2 at h hC2
    dsimp only [wbc_X3_locator_2] at h
    refine z_iload_n X 2 dX3_locator_2 rfl ?_
    refine z_aload_n X 0 dX3_locator_3 rfl ?_
    refine gC_X3_27_X3 X K dX3_locator_4 ?_
    refine z_alen' X K 41 (Nat.le_of_ble_eq_true rfl) rfl rfl rfl dX3_locator_7 ?_
    obtain ⟨i1, h⟩ := h
    refine z_icmp_ge X 47 dX3_locator_8 rfl i1 (by decide) (fun c2 => ?_) (fun c2 => ?_)
    · have h := h.1 c2
      refine z_iconst X 0 dX3_locator_47 ?_
      refine z_istore_nK X K (lv' := [(2, .int (iz 0)), (0, .ref (ad 35)), (1, .int (iz v1))]) dX3_locator_48 rfl rfl ?_
      refine z_iconst X 1 dX3_locator_49 ?_
      refine z_istore_nK X K (lv' := [(3, .int (iz 1)), (2, .int (iz 0)), (0, .ref (ad 35)), (1, .int (iz v1))]) dX3_locator_50 rfl rfl ?_
      refine z_iconst X 1 dX3_locator_51 ?_
      refine z_istoreK X K (lv' := [(4, .int (iz 1)), (3, .int (iz 1)), (2, .int (iz 0)), (0, .ref (ad 35)), (1, .int (iz v1))]) dX3_locator_52 rfl rfl ?_
      refine z_iconst X 0 dX3_locator_54 ?_
      refine z_istoreK X K (lv' := [(5, .int (iz 0)), (4, .int (iz 1)), (3, .int (iz 1)), (2, .int (iz 0)), (0, .ref (ad 35)), (1, .int (iz v1))]) dX3_locator_55 rfl rfl ?_
      obtain ⟨N, h⟩ := h
      exact z_sub [4, 5, 3, 2, 1, 0] rfl (wkc_X3_locator_57 X K hR N _ _ _ _ _ _ h)
    · have h := h.2 c2
      refine z_aload_n X 0 dX3_locator_11 rfl ?_
      refine gC_X3_27_X3 X K dX3_locator_12 ?_
      refine z_iload_n X 2 dX3_locator_15 rfl ?_
      refine z_iload_n X 2 dX3_locator_16 rfl ?_
      refine z_if_ne X 24 dX3_locator_17 rfl i1 (fun c3 => ?_) (fun c3 => ?_)
      · have h := h.1 c3
        refine z_iconst X 0 dX3_locator_24 ?_
        exact z_sub [0, 1, 2] rfl (wkc_X3_locator_25 X K hR hC2 _ _ _ _ _ h)
      · have h := h.2 c3
        refine z_iconst X 1 dX3_locator_20 ?_
        refine z_goto (tgt := 25) X dX3_locator_21 rfl ?_
        exact z_sub [0, 1, 2] rfl (wkc_X3_locator_25 X K hR hC2 _ _ _ _ _ h)
set_option maxRecDepth 100000 in
theorem mtc_X3_locator (l : Launch) (D : va_G) (ds : Nat → ClassId) (ad : Nat → Nat) (a0 : Int) (σ : ZS) (post : Int → ZS → Prop) (h : wc_X3_locator a0 σ post) : ZMetI l (ΘC D ds ad) yX3_locator cX3_locator 10 .int 3 46 0 0 [.ref (ad 35), .int (iz a0)] σ post := by
  refine ZMetI.of (by decide) (Nat.le_of_ble_eq_true rfl) (fun Γ X K hR => ?_)
  have X : ZX Γ cX3_locator RX3 3 46 := X
  refine z_sub [0, 1] (lv' := [(0, .ref (ad 35)), (1, .int (iz a0))]) rfl ?_
  refine z_iconst X 0 dX3_locator_0 ?_
  refine z_istore_nK X K (lv' := [(2, .int (iz 0)), (0, .ref (ad 35)), (1, .int (iz a0))]) dX3_locator_1 rfl rfl ?_
  obtain ⟨N, h⟩ := h
  exact z_sub [1, 2, 0] rfl (wkc_X3_locator_2 X K hR N _ _ _ h)
/- X3_error -/
set_option maxRecDepth 100000 in
theorem wkc_X3_error_131 {Γ : ZG} {l : Launch} {D : va_G} {ds : Nat → ClassId} {ad : Nat → Nat} {post : Int → ZS → Prop} (X : ZX Γ cX3_error RX3 3 46) (K : ZCap Γ l (ΘC D ds ad) 8 0 0) (hR : ZRetI Γ cX3_error .int 0 0 post) : ∀ (N : Nat) (v1 : Int) (v2 : Int) (v4 : Int) (v5 : Int) (v6 : Int) (σ : ZS), zfix (wbc_X3_error_131 post) N (v1, v2, v4, v5, v6, σ) → Z Γ 0 0 σ [] 131 [(0, .ref (ad 35)), (1, .int (iz v1)), (2, .int (iz v2)), (4, .int (iz v4)), (5, .int (iz v5)), (6, .int (iz v6))] [] := by
  intro N
  induction N with
  | zero => intro v1 v2 v4 v5 v6 σ h; exact False.elim h
  | succ N ih =>
    intro v1 v2 v4 v5 v6 σ h
    have h : wbc_X3_error_131 post (zfix (wbc_X3_error_131 post) N) (v1, v2, v4, v5, v6, σ) := h
    have hC131 := ih
    clear ih
    generalize zfix (wbc_X3_error_131 post) N = C131 at h hC131
    dsimp only [wbc_X3_error_131] at h
    refine z_iload X 5 dX3_error_131 rfl ?_
    refine z_iload_n X 2 dX3_error_133 rfl ?_
    obtain ⟨i1, h⟩ := h
    obtain ⟨i2, h⟩ := h
    refine z_icmp_gt X 182 dX3_error_134 rfl i1 i2 (fun c3 => ?_) (fun c3 => ?_)
    · have h := h.1 c3
      refine z_iload X 4 dX3_error_182 rfl ?_
      obtain ⟨i4, h⟩ := h
      refine z_if_ne X 191 dX3_error_184 rfl i4 (fun c5 => ?_) (fun c5 => ?_)
      · have h := h.1 c5
        refine z_aload_n X 0 dX3_error_191 rfl ?_
        refine z_iload X 3 dX3_error_192 rfl ?_
        refine z_iload X 4 dX3_error_194 rfl ?_
        refine clc_X3_54 X K rfl h (Nat.le_of_ble_eq_true rfl) dX3_error_196 ⟨Nat.zero_le _, Nat.zero_le _⟩ (fun r7 σ6 h => ?_)
        exact hR _ _ _ _ _ _ _ dX3_error_199 rfl (Nat.le_refl 0) (Nat.le_refl 0) h
      · have h := h.2 c5
        refine z_iconst X 0 dX3_error_187 ?_
        refine z_goto (tgt := 199) X dX3_error_188 rfl ?_
        exact hR _ _ _ _ _ _ _ dX3_error_199 rfl (Nat.le_refl 0) (Nat.le_refl 0) h
    · have h := h.2 c3
      refine z_iload X 4 dX3_error_137 rfl ?_
      refine z_aload_n X 0 dX3_error_139 rfl ?_
      refine z_aload_n X 0 dX3_error_140 rfl ?_
      refine gC_X3_27_X3 X K dX3_error_141 ?_
      refine z_iload X 5 dX3_error_144 rfl ?_
      obtain ⟨x8, h⟩ := h
      refine z_ald' X K 41 (Nat.le_of_ble_eq_true rfl) rfl rfl (Nat.le_of_ble_eq_true rfl) dX3_error_146 x8 ?_
      refine z_aload_n X 0 dX3_error_147 rfl ?_
      refine gC_X3_9_X3 X K dX3_error_148 ?_
      refine z_sipush X 255 dX3_error_151 rfl ?_
      refine z_iload_n X 1 dX3_error_154 rfl ?_
      refine z_sipush X 255 dX3_error_155 rfl ?_
      obtain ⟨i9, h⟩ := h
      obtain ⟨g10, h⟩ := h
      refine z_irem X dX3_error_158 ⟨i9, (by decide), g10, (by decide)⟩ ?_
      refine z_isub X dX3_error_159 ?_
      refine z_iload X 5 dX3_error_160 rfl ?_
      refine z_iconst X 1 dX3_error_162 ?_
      refine z_isub X dX3_error_163 ?_
      refine z_imul X dX3_error_164 ?_
      refine z_sipush X 255 dX3_error_165 rfl ?_
      obtain ⟨i11, h⟩ := h
      obtain ⟨g12, h⟩ := h
      refine z_irem X dX3_error_168 ⟨i11, (by decide), g12, (by decide)⟩ ?_
      obtain ⟨x13, h⟩ := h
      refine z_ald' X K 36 (Nat.le_of_ble_eq_true rfl) rfl rfl (Nat.le_of_ble_eq_true rfl) dX3_error_169 x13 ?_
      refine clc_X3_39 X K rfl h (Nat.le_of_ble_eq_true rfl) dX3_error_170 ⟨Nat.zero_le _, Nat.zero_le _⟩ (fun r15 σ14 h => ?_)
      refine z_ixor X dX3_error_173 ?_
      refine z_topi (fun v5_16 ev5_16 => ?_)
      have h := h v5_16 ev5_16
      refine z_istoreK X K (lv' := [(5, .int (iz v5_16)), (0, .ref (ad 35)), (1, .int (iz v1)), (2, .int (iz v2)), (4, .int (iz v4)), (6, .int (iz v6))]) dX3_error_174 rfl rfl ?_
      refine z_iincK X K 5 (lv' := [(6, .int (iz (v6 + 2))), (5, .int (iz v5_16)), (0, .ref (ad 35)), (1, .int (iz v1)), (2, .int (iz v2)), (4, .int (iz v4))]) dX3_error_176 rfl rfl rfl ?_
      refine z_goto (tgt := 131) X dX3_error_179 rfl ?_
      exact z_sub [2, 3, 4, 5, 1, 0] rfl (hC131 _ _ _ _ _ _ h)
set_option maxRecDepth 100000 in
theorem wkc_X3_error_100 {Γ : ZG} {l : Launch} {D : va_G} {ds : Nat → ClassId} {ad : Nat → Nat} {post : Int → ZS → Prop} (X : ZX Γ cX3_error RX3 3 46) (K : ZCap Γ l (ΘC D ds ad) 8 0 0) (hR : ZRetI Γ cX3_error .int 0 0 post) : ∀ (N : Nat) (v1 : Int) (v2 : Int) (v3 : Int) (v4 : Int) (v5 : Int) (v6 : Int) (σ : ZS), zfix (wbc_X3_error_100 post) N (v1, v2, v3, v4, v5, v6, σ) → Z Γ 0 0 σ [] 100 [(0, .ref (ad 35)), (1, .int (iz v1)), (2, .int (iz v2)), (3, .int (iz v3)), (4, .int (iz v4)), (5, .int (iz v5)), (6, .int (iz v6))] [] := by
  intro N
  induction N with
  | zero => intro v1 v2 v3 v4 v5 v6 σ h; exact False.elim h
  | succ N ih =>
    intro v1 v2 v3 v4 v5 v6 σ h
    have h : wbc_X3_error_100 post (zfix (wbc_X3_error_100 post) N) (v1, v2, v3, v4, v5, v6, σ) := h
    have hC100 := ih
    clear ih
    generalize zfix (wbc_X3_error_100 post) N = C100 at h hC100
    dsimp only [wbc_X3_error_100] at h
    refine z_iload X 6 dX3_error_100 rfl ?_
    obtain ⟨i1, h⟩ := h
    refine z_if_lt X 128 dX3_error_102 rfl i1 (fun c2 => ?_) (fun c2 => ?_)
    · have h := h.1 c2
      refine z_iconst X 1 dX3_error_128 ?_
      refine z_istoreK X K (lv' := [(6, .int (iz 1)), (0, .ref (ad 35)), (1, .int (iz v1)), (2, .int (iz v2)), (3, .int (iz v3)), (4, .int (iz v4)), (5, .int (iz v5))]) dX3_error_129 rfl rfl ?_
      obtain ⟨N, h⟩ := h
      exact z_sub [1, 2, 3, 5, 6, 0] rfl (wkc_X3_error_131 X K hR N _ _ _ _ _ _ h)
    · have h := h.2 c2
      refine z_aload_n X 0 dX3_error_105 rfl ?_
      refine z_iload X 4 dX3_error_106 rfl ?_
      refine z_iload_n X 3 dX3_error_108 rfl ?_
      refine clc_X3_39 X K rfl h (Nat.le_of_ble_eq_true rfl) dX3_error_109 ⟨Nat.zero_le _, Nat.zero_le _⟩ (fun r4 σ3 h => ?_)
      refine z_aload_n X 0 dX3_error_112 rfl ?_
      refine gC_X3_36_X3 X K dX3_error_113 ?_
      refine z_iload X 6 dX3_error_116 rfl ?_
      obtain ⟨x5, h⟩ := h
      refine z_ald' X K 44 (Nat.le_of_ble_eq_true rfl) rfl rfl (Nat.le_of_ble_eq_true rfl) dX3_error_118 x5 ?_
      refine z_ixor X dX3_error_119 ?_
      refine z_topi (fun v4_6 ev4_6 => ?_)
      have h := h v4_6 ev4_6
      refine z_istoreK X K (lv' := [(4, .int (iz v4_6)), (0, .ref (ad 35)), (1, .int (iz v1)), (2, .int (iz v2)), (3, .int (iz v3)), (5, .int (iz v5)), (6, .int (iz v6))]) dX3_error_120 rfl rfl ?_
      refine z_iincK X K 6 (lv' := [(6, .int (iz (v6 + (-1)))), (4, .int (iz v4_6)), (0, .ref (ad 35)), (1, .int (iz v1)), (2, .int (iz v2)), (3, .int (iz v3)), (5, .int (iz v5))]) dX3_error_122 rfl rfl rfl ?_
      refine z_goto (tgt := 100) X dX3_error_125 rfl ?_
      exact z_sub [2, 3, 4, 5, 1, 6, 0] rfl (hC100 _ _ _ _ _ _ _ h)
set_option maxRecDepth 100000 in
theorem wkc_X3_error_45 {Γ : ZG} {l : Launch} {D : va_G} {ds : Nat → ClassId} {ad : Nat → Nat} {post : Int → ZS → Prop} (X : ZX Γ cX3_error RX3 3 46) (K : ZCap Γ l (ΘC D ds ad) 8 0 0) (hR : ZRetI Γ cX3_error .int 0 0 post) {C28 : Int × Int × Int × Int × Int × Int × ZS → Prop} (hC28 : ∀ (v1 : Int) (v2 : Int) (v3 : Int) (v4 : Int) (v5 : Int) (v6 : Int) (σ : ZS), C28 (v1, v2, v3, v4, v5, v6, σ) → Z Γ 0 0 σ [] 28 [(0, .ref (ad 35)), (1, .int (iz v1)), (2, .int (iz v2)), (3, .int (iz v3)), (4, .int (iz v4)), (5, .int (iz v5)), (6, .int (iz v6))] []) : ∀ (N : Nat) (v1 : Int) (v2 : Int) (v3 : Int) (v4 : Int) (v5 : Int) (v6 : Int) (v7 : Int) (σ : ZS), zfix (wbc_X3_error_45 C28 post) N (v1, v2, v3, v4, v5, v6, v7, σ) → Z Γ 0 0 σ [] 45 [(0, .ref (ad 35)), (1, .int (iz v1)), (2, .int (iz v2)), (3, .int (iz v3)), (4, .int (iz v4)), (5, .int (iz v5)), (6, .int (iz v6)), (7, .int (iz v7))] [] := by
  intro N
  induction N with
  | zero => intro v1 v2 v3 v4 v5 v6 v7 σ h; exact False.elim h
  | succ N ih =>
    intro v1 v2 v3 v4 v5 v6 v7 σ h
    have h : wbc_X3_error_45 C28 post (zfix (wbc_X3_error_45 C28 post) N) (v1, v2, v3, v4, v5, v6, v7, σ) := h
    have hC45 := ih
    clear ih
    generalize zfix (wbc_X3_error_45 C28 post) N = C45 at h hC45
    dsimp only [wbc_X3_error_45] at h
    refine z_iload X 7 dX3_error_45 rfl ?_
    refine z_iload X 6 dX3_error_47 rfl ?_
    obtain ⟨i1, h⟩ := h
    obtain ⟨i2, h⟩ := h
    refine z_icmp_gt X 89 dX3_error_49 rfl i1 i2 (fun c3 => ?_) (fun c3 => ?_)
    · have h := h.1 c3
      refine z_iincK X K 6 (lv' := [(6, .int (iz (v6 + 1))), (0, .ref (ad 35)), (1, .int (iz v1)), (2, .int (iz v2)), (3, .int (iz v3)), (4, .int (iz v4)), (5, .int (iz v5)), (7, .int (iz v7))]) dX3_error_89 rfl rfl rfl ?_
      refine z_goto (tgt := 28) X dX3_error_92 rfl ?_
      exact z_sub [1, 2, 3, 4, 5, 6, 0] rfl (hC28 _ _ _ _ _ _ _ h)
    · have h := h.2 c3
      refine z_aload_n X 0 dX3_error_52 rfl ?_
      refine gC_X3_36_X3 X K dX3_error_53 ?_
      refine z_iload X 6 dX3_error_56 rfl ?_
      refine z_dup2 X dX3_error_58 rfl rfl ?_
      obtain ⟨x4, h⟩ := h
      refine z_ald' X K 44 (Nat.le_of_ble_eq_true rfl) rfl rfl (Nat.le_of_ble_eq_true rfl) dX3_error_59 x4 ?_
      refine z_aload_n X 0 dX3_error_60 rfl ?_
      refine z_aload_n X 0 dX3_error_61 rfl ?_
      refine gC_X3_24_X3 X K dX3_error_62 ?_
      refine z_iload X 6 dX3_error_65 rfl ?_
      refine z_iload X 7 dX3_error_67 rfl ?_
      refine z_isub X dX3_error_69 ?_
      obtain ⟨x5, h⟩ := h
      refine z_ald' X K 40 (Nat.le_of_ble_eq_true rfl) rfl rfl (Nat.le_of_ble_eq_true rfl) dX3_error_70 x5 ?_
      refine z_aload_n X 0 dX3_error_71 rfl ?_
      refine gC_X3_27_X3 X K dX3_error_72 ?_
      refine z_iload X 7 dX3_error_75 rfl ?_
      obtain ⟨x6, h⟩ := h
      refine z_ald' X K 41 (Nat.le_of_ble_eq_true rfl) rfl rfl (Nat.le_of_ble_eq_true rfl) dX3_error_77 x6 ?_
      refine clc_X3_39 X K rfl h (Nat.le_of_ble_eq_true rfl) dX3_error_78 ⟨Nat.zero_le _, Nat.zero_le _⟩ (fun r8 σ7 h => ?_)
      refine z_ixor X dX3_error_81 ?_
      refine z_ast' X K 44 (Nat.le_of_ble_eq_true rfl) rfl rfl (Nat.le_of_ble_eq_true rfl) dX3_error_82 x4 (fun σ9 eσ9 => ?_)
      have h := h σ9 eσ9
      refine z_iincK X K 7 (lv' := [(7, .int (iz (v7 + 1))), (0, .ref (ad 35)), (1, .int (iz v1)), (2, .int (iz v2)), (3, .int (iz v3)), (4, .int (iz v4)), (5, .int (iz v5)), (6, .int (iz v6))]) dX3_error_83 rfl rfl rfl ?_
      refine z_goto (tgt := 45) X dX3_error_86 rfl ?_
      exact z_sub [1, 2, 3, 4, 5, 6, 7, 0] rfl (hC45 _ _ _ _ _ _ _ _ h)
set_option maxRecDepth 100000 in
theorem wkc_X3_error_28 {Γ : ZG} {l : Launch} {D : va_G} {ds : Nat → ClassId} {ad : Nat → Nat} {post : Int → ZS → Prop} (X : ZX Γ cX3_error RX3 3 46) (K : ZCap Γ l (ΘC D ds ad) 8 0 0) (hR : ZRetI Γ cX3_error .int 0 0 post) : ∀ (N : Nat) (v1 : Int) (v2 : Int) (v3 : Int) (v4 : Int) (v5 : Int) (v6 : Int) (σ : ZS), zfix (wbc_X3_error_28 post) N (v1, v2, v3, v4, v5, v6, σ) → Z Γ 0 0 σ [] 28 [(0, .ref (ad 35)), (1, .int (iz v1)), (2, .int (iz v2)), (3, .int (iz v3)), (4, .int (iz v4)), (5, .int (iz v5)), (6, .int (iz v6))] [] := by
  intro N
  induction N with
  | zero => intro v1 v2 v3 v4 v5 v6 σ h; exact False.elim h
  | succ N ih =>
    intro v1 v2 v3 v4 v5 v6 σ h
    have h : wbc_X3_error_28 post (zfix (wbc_X3_error_28 post) N) (v1, v2, v3, v4, v5, v6, σ) := h
    have hC28 := ih
    clear ih
    generalize zfix (wbc_X3_error_28 post) N = C28 at h hC28
    dsimp only [wbc_X3_error_28] at h
    refine z_iload X 6 dX3_error_28 rfl ?_
    refine z_iload_n X 2 dX3_error_30 rfl ?_
    obtain ⟨i1, h⟩ := h
    obtain ⟨i2, h⟩ := h
    refine z_icmp_ge X 95 dX3_error_31 rfl i1 i2 (fun c3 => ?_) (fun c3 => ?_)
    · have h := h.1 c3
      refine z_iload_n X 2 dX3_error_95 rfl ?_
      refine z_iconst X 1 dX3_error_96 ?_
      refine z_isub X dX3_error_97 ?_
      refine z_istoreK X K (lv' := [(6, .int (iz (v2 - 1))), (0, .ref (ad 35)), (1, .int (iz v1)), (2, .int (iz v2)), (3, .int (iz v3)), (4, .int (iz v4)), (5, .int (iz v5))]) dX3_error_98 rfl rfl ?_
      obtain ⟨N, h⟩ := h
      exact z_sub [1, 2, 3, 4, 5, 6, 0] rfl (wkc_X3_error_100 X K hR N _ _ _ _ _ _ _ h)
    · have h := h.2 c3
      refine z_aload_n X 0 dX3_error_34 rfl ?_
      refine gC_X3_36_X3 X K dX3_error_35 ?_
      refine z_iload X 6 dX3_error_38 rfl ?_
      refine z_iconst X 0 dX3_error_40 ?_
      obtain ⟨x4, h⟩ := h
      refine z_ast' X K 44 (Nat.le_of_ble_eq_true rfl) rfl rfl (Nat.le_of_ble_eq_true rfl) dX3_error_41 x4 (fun σ5 eσ5 => ?_)
      have h := h σ5 eσ5
      refine z_iconst X 0 dX3_error_42 ?_
      refine z_istoreK X K (lv' := [(7, .int (iz 0)), (0, .ref (ad 35)), (1, .int (iz v1)), (2, .int (iz v2)), (3, .int (iz v3)), (4, .int (iz v4)), (5, .int (iz v5)), (6, .int (iz v6))]) dX3_error_43 rfl rfl ?_
      obtain ⟨N, h⟩ := h
      exact z_sub [1, 2, 3, 4, 5, 6, 7, 0] rfl (wkc_X3_error_45 X K hR hC28 N _ _ _ _ _ _ _ _ h)
set_option maxRecDepth 100000 in
theorem mtc_X3_error (l : Launch) (D : va_G) (ds : Nat → ClassId) (ad : Nat → Nat) (a0 : Int) (a1 : Int) (σ : ZS) (post : Int → ZS → Prop) (h : wc_X3_error a0 a1 σ post) : ZMetI l (ΘC D ds ad) yX3_error cX3_error 8 .int 3 46 0 0 [.ref (ad 35), .int (iz a0), .int (iz a1)] σ post := by
  refine ZMetI.of (by decide) (Nat.le_of_ble_eq_true rfl) (fun Γ X K hR => ?_)
  have X : ZX Γ cX3_error RX3 3 46 := X
  refine z_sub [0, 1, 2] (lv' := [(0, .ref (ad 35)), (1, .int (iz a0)), (2, .int (iz a1))]) rfl ?_
  refine z_aload_n X 0 dX3_error_0 rfl ?_
  refine gC_X3_9_X3 X K dX3_error_1 ?_
  refine z_sipush X 255 dX3_error_4 rfl ?_
  refine z_iload_n X 1 dX3_error_7 rfl ?_
  refine z_sipush X 255 dX3_error_8 rfl ?_
  obtain ⟨i1, h⟩ := h
  obtain ⟨g2, h⟩ := h
  refine z_irem X dX3_error_11 ⟨i1, (by decide), g2, (by decide)⟩ ?_
  refine z_isub X dX3_error_12 ?_
  refine z_sipush X 255 dX3_error_13 rfl ?_
  obtain ⟨i3, h⟩ := h
  obtain ⟨g4, h⟩ := h
  refine z_irem X dX3_error_16 ⟨i3, (by decide), g4, (by decide)⟩ ?_
  obtain ⟨x5, h⟩ := h
  refine z_ald' X K 36 (Nat.le_of_ble_eq_true rfl) rfl rfl (Nat.le_of_ble_eq_true rfl) dX3_error_17 x5 ?_
  refine z_topi (fun v3_6 ev3_6 => ?_)
  have h := h v3_6 ev3_6
  refine z_istore_nK X K (lv' := [(3, .int (iz v3_6)), (0, .ref (ad 35)), (1, .int (iz a0)), (2, .int (iz a1))]) dX3_error_18 rfl rfl ?_
  refine z_iconst X 0 dX3_error_19 ?_
  refine z_istoreK X K (lv' := [(4, .int (iz 0)), (3, .int (iz v3_6)), (0, .ref (ad 35)), (1, .int (iz a0)), (2, .int (iz a1))]) dX3_error_20 rfl rfl ?_
  refine z_iconst X 0 dX3_error_22 ?_
  refine z_istoreK X K (lv' := [(5, .int (iz 0)), (4, .int (iz 0)), (3, .int (iz v3_6)), (0, .ref (ad 35)), (1, .int (iz a0)), (2, .int (iz a1))]) dX3_error_23 rfl rfl ?_
  refine z_iconst X 0 dX3_error_25 ?_
  refine z_istoreK X K (lv' := [(6, .int (iz 0)), (5, .int (iz 0)), (4, .int (iz 0)), (3, .int (iz v3_6)), (0, .ref (ad 35)), (1, .int (iz a0)), (2, .int (iz a1))]) dX3_error_26 rfl rfl ?_
  obtain ⟨N, h⟩ := h
  exact z_sub [4, 5, 6, 3, 2, 1, 0] rfl (wkc_X3_error_28 X K hR N _ _ _ _ _ _ _ h)
/- X3_mend -/
theorem clc_X3_51 {Γ : ZG} {cc : ByteArray} {fr lo nL mc0 ms0 k n pc : Nat} {xs : va_W} {lv : List (Nat × Value)} {st : List Value} {l : Launch} {D : va_G} {ds : Nat → ClassId} {ad : Nat → Nat} {a0 : Int} {a1 : Int} {σ : ZS} {post : Int → ZS → Prop} (X : ZX Γ cc RX3 fr lo) (K : ZCap Γ l (ΘC D ds ad) nL mc0 ms0) (hrm : zroom 4 73 fr lo = true) (h : wc_X3_error a0 a1 σ post) (hst : (st.map fun v => v.category).sum ≤ 8) (d : decode cc pc = .ok (.invokevirtual 51, 3)) (hcs : k ≤ mc0 ∧ n ≤ ms0) (kk : ∀ (r : Int) (σ' : ZS), post r σ' → Z Γ k n σ' xs (pc + 3) lv (.int (iz r) :: st)) : Z Γ k n σ xs pc lv (.int (iz a1) :: .int (iz a0) :: .ref (ad 35) :: st) := 
  z_callVI' (C := RX3) (q0 := 35) X K (mtc_X3_error l D ds ad a0 a1 σ post h) (Nat.le_of_ble_eq_true rfl) rfl rfl rfl (lw_V q1131 q1133 qs38 q110 q1134) ⟨rfl, by decide, by decide, rfl⟩ (zroom_of (zroom_le hrm (by decide))) ⟨by rw [K.2.2.2.1]; exact hcs.1, by rw [K.2.2.2.2]; exact hcs.2⟩ hst d rfl kk
theorem clc_X3_43 {Γ : ZG} {cc : ByteArray} {fr lo nL mc0 ms0 k n pc : Nat} {xs : va_W} {lv : List (Nat × Value)} {st : List Value} {l : Launch} {D : va_G} {ds : Nat → ClassId} {ad : Nat → Nat} {a0 : Int} {a1 : Int} {σ : ZS} {post : Int → ZS → Prop} (X : ZX Γ cc RX3 fr lo) (K : ZCap Γ l (ΘC D ds ad) nL mc0 ms0) (hrm : zroom 4 72 fr lo = true) (h : wc_X3_isRight a0 a1 σ post) (hst : (st.map fun v => v.category).sum ≤ 8) (d : decode cc pc = .ok (.invokevirtual 43, 3)) (hcs : k ≤ mc0 ∧ n ≤ ms0) (kk : ∀ (r : Int) (σ' : ZS), (fun r σ => (r = 0 ∨ r = 1) ∧ post r σ) r σ' → Z Γ k n σ' xs (pc + 3) lv (.int (iz r) :: st)) : Z Γ k n σ xs pc lv (.int (iz a1) :: .int (iz a0) :: .ref (ad 35) :: st) := 
  z_callVI' (C := RX3) (q0 := 35) X K (mtc_X3_isRight l D ds ad a0 a1 σ post h) (Nat.le_of_ble_eq_true rfl) rfl rfl rfl (lw_V q1119 q1121 qs35 q110 q1122) ⟨rfl, by decide, by decide, rfl⟩ (zroom_of (zroom_le hrm (by decide))) ⟨by rw [K.2.2.2.1]; exact hcs.1, by rw [K.2.2.2.2]; exact hcs.2⟩ hst d rfl kk
theorem clc_X3_47 {Γ : ZG} {cc : ByteArray} {fr lo nL mc0 ms0 k n pc : Nat} {xs : va_W} {lv : List (Nat × Value)} {st : List Value} {l : Launch} {D : va_G} {ds : Nat → ClassId} {ad : Nat → Nat} {a0 : Int} {σ : ZS} {post : Int → ZS → Prop} (X : ZX Γ cc RX3 fr lo) (K : ZCap Γ l (ΘC D ds ad) nL mc0 ms0) (hrm : zroom 4 75 fr lo = true) (h : wc_X3_locator a0 σ post) (hst : (st.map fun v => v.category).sum ≤ 8) (d : decode cc pc = .ok (.invokevirtual 47, 3)) (hcs : k ≤ mc0 ∧ n ≤ ms0) (kk : ∀ (r : Int) (σ' : ZS), post r σ' → Z Γ k n σ' xs (pc + 3) lv (.int (iz r) :: st)) : Z Γ k n σ xs pc lv (.int (iz a0) :: .ref (ad 35) :: st) := 
  z_callVI' (C := RX3) (q0 := 35) X K (mtc_X3_locator l D ds ad a0 σ post h) (Nat.le_of_ble_eq_true rfl) rfl rfl rfl (lw_V q1123 q1125 qs36 q110 q1126) ⟨rfl, by decide, by decide, rfl⟩ (zroom_of (zroom_le hrm (by decide))) ⟨by rw [K.2.2.2.1]; exact hcs.1, by rw [K.2.2.2.2]; exact hcs.2⟩ hst d rfl kk
set_option maxRecDepth 100000 in
theorem wkc_X3_mend_52 {Γ : ZG} {l : Launch} {D : va_G} {ds : Nat → ClassId} {ad : Nat → Nat} {post : Int → ZS → Prop} (X : ZX Γ cX3_mend RX3 4 75) (K : ZCap Γ l (ΘC D ds ad) 9 0 0) (hR : ZRetI Γ cX3_mend .int 0 0 post) {C32 : Int × Int × Int × Int × Int × ZS → Prop} (hC32 : ∀ (v1 : Int) (v2 : Int) (v3 : Int) (v4 : Int) (v5 : Int) (σ : ZS), C32 (v1, v2, v3, v4, v5, σ) → Z Γ 0 0 σ [] 32 [(0, .ref (ad 35)), (1, .int (iz v1)), (2, .int (iz v2)), (3, .int (iz v3)), (4, .int (iz v4)), (5, .int (iz v5))] []) : ∀ (N : Nat) (v1 : Int) (v2 : Int) (v3 : Int) (v4 : Int) (v5 : Int) (v6 : Int) (v7 : Int) (v8 : Int) (σ : ZS), zfix (wbc_X3_mend_52 C32 post) N (v1, v2, v3, v4, v5, v6, v7, v8, σ) → Z Γ 0 0 σ [] 52 [(0, .ref (ad 35)), (1, .int (iz v1)), (2, .int (iz v2)), (3, .int (iz v3)), (4, .int (iz v4)), (5, .int (iz v5)), (6, .int (iz v6)), (7, .int (iz v7)), (8, .int (iz v8))] [] := by
  intro N
  induction N with
  | zero => intro v1 v2 v3 v4 v5 v6 v7 v8 σ h; exact False.elim h
  | succ N ih =>
    intro v1 v2 v3 v4 v5 v6 v7 v8 σ h
    have h : wbc_X3_mend_52 C32 post (zfix (wbc_X3_mend_52 C32 post) N) (v1, v2, v3, v4, v5, v6, v7, v8, σ) := h
    have hC52 := ih
    clear ih
    generalize zfix (wbc_X3_mend_52 C32 post) N = C52 at h hC52
    dsimp only [wbc_X3_mend_52] at h
    refine z_iload X 8 dX3_mend_52 rfl ?_
    obtain ⟨i1, h⟩ := h
    refine z_if_lt X 98 dX3_mend_54 rfl i1 (fun c2 => ?_) (fun c2 => ?_)
    · have h := h.1 c2
      refine z_iload X 7 dX3_mend_98 rfl ?_
      obtain ⟨i3, h⟩ := h
      refine z_if_eq X 106 dX3_mend_100 rfl i3 (fun c4 => ?_) (fun c4 => ?_)
      · have h := h.1 c4
        refine z_iincK X K 4 (lv' := [(4, .int (iz (v4 + 1))), (0, .ref (ad 35)), (1, .int (iz v1)), (2, .int (iz v2)), (3, .int (iz v3)), (5, .int (iz v5)), (6, .int (iz v6)), (7, .int (iz v7)), (8, .int (iz v8))]) dX3_mend_106 rfl rfl rfl ?_
        refine z_aload_n X 1 dX3_mend_109 rfl ?_
        refine gC_X3_21_X3 X K dX3_mend_110 ?_
        refine z_iload X 5 dX3_mend_113 rfl ?_
        refine z_dup2 X dX3_mend_115 rfl rfl ?_
        obtain ⟨x5, h⟩ := h
        refine z_ald' X K 39 (Nat.le_of_ble_eq_true rfl) rfl rfl (Nat.le_of_ble_eq_true rfl) dX3_mend_116 x5 ?_
        refine z_aload_n X 1 dX3_mend_117 rfl ?_
        refine z_iload X 6 dX3_mend_118 rfl ?_
        refine z_iload_n X 4 dX3_mend_120 rfl ?_
        refine clc_X3_51 X K rfl h (Nat.le_of_ble_eq_true rfl) dX3_mend_121 ⟨Nat.zero_le _, Nat.zero_le _⟩ (fun r7 σ6 h => ?_)
        refine z_ixor X dX3_mend_124 ?_
        refine z_ast' X K 39 (Nat.le_of_ble_eq_true rfl) rfl rfl (Nat.le_of_ble_eq_true rfl) dX3_mend_125 x5 (fun σ8 eσ8 => ?_)
        have h := h σ8 eσ8
        refine z_iincK X K 5 (lv' := [(5, .int (iz (v5 + 1))), (4, .int (iz (v4 + 1))), (0, .ref (ad 35)), (1, .int (iz v1)), (2, .int (iz v2)), (3, .int (iz v3)), (6, .int (iz v6)), (7, .int (iz v7)), (8, .int (iz v8))]) dX3_mend_126 rfl rfl rfl ?_
        refine z_goto (tgt := 32) X dX3_mend_129 rfl ?_
        exact z_sub [2, 3, 4, 5, 1, 0] rfl (hC32 _ _ _ _ _ _ h)
      · have h := h.2 c4
        refine z_goto (tgt := 126) X dX3_mend_103 rfl ?_
        refine z_iincK X K 5 (lv' := [(5, .int (iz (v5 + 1))), (0, .ref (ad 35)), (1, .int (iz v1)), (2, .int (iz v2)), (3, .int (iz v3)), (4, .int (iz v4)), (6, .int (iz v6)), (7, .int (iz v7)), (8, .int (iz v8))]) dX3_mend_126 rfl rfl rfl ?_
        refine z_goto (tgt := 32) X dX3_mend_129 rfl ?_
        exact z_sub [1, 2, 3, 4, 5, 0] rfl (hC32 _ _ _ _ _ _ h)
    · have h := h.2 c2
      refine z_aload_n X 0 dX3_mend_57 rfl ?_
      refine z_iload X 7 dX3_mend_58 rfl ?_
      refine z_aload_n X 0 dX3_mend_60 rfl ?_
      refine gC_X3_9_X3 X K dX3_mend_61 ?_
      refine z_sipush X 255 dX3_mend_64 rfl ?_
      refine z_iload X 6 dX3_mend_67 rfl ?_
      refine z_sipush X 255 dX3_mend_69 rfl ?_
      obtain ⟨i9, h⟩ := h
      obtain ⟨g10, h⟩ := h
      refine z_irem X dX3_mend_72 ⟨i9, (by decide), g10, (by decide)⟩ ?_
      refine z_isub X dX3_mend_73 ?_
      refine z_sipush X 255 dX3_mend_74 rfl ?_
      obtain ⟨i11, h⟩ := h
      obtain ⟨g12, h⟩ := h
      refine z_irem X dX3_mend_77 ⟨i11, (by decide), g12, (by decide)⟩ ?_
      obtain ⟨x13, h⟩ := h
      refine z_ald' X K 36 (Nat.le_of_ble_eq_true rfl) rfl rfl (Nat.le_of_ble_eq_true rfl) dX3_mend_78 x13 ?_
      refine clc_X3_39 X K rfl h (Nat.le_of_ble_eq_true rfl) dX3_mend_79 ⟨Nat.zero_le _, Nat.zero_le _⟩ (fun r15 σ14 h => ?_)
      refine z_aload_n X 0 dX3_mend_82 rfl ?_
      refine gC_X3_27_X3 X K dX3_mend_83 ?_
      refine z_iload X 8 dX3_mend_86 rfl ?_
      obtain ⟨x16, h⟩ := h
      refine z_ald' X K 41 (Nat.le_of_ble_eq_true rfl) rfl rfl (Nat.le_of_ble_eq_true rfl) dX3_mend_88 x16 ?_
      refine z_ixor X dX3_mend_89 ?_
      refine z_topi (fun v7_17 ev7_17 => ?_)
      have h := h v7_17 ev7_17
      refine z_istoreK X K (lv' := [(7, .int (iz v7_17)), (0, .ref (ad 35)), (1, .int (iz v1)), (2, .int (iz v2)), (3, .int (iz v3)), (4, .int (iz v4)), (5, .int (iz v5)), (6, .int (iz v6)), (8, .int (iz v8))]) dX3_mend_90 rfl rfl ?_
      refine z_iincK X K 8 (lv' := [(8, .int (iz (v8 + (-1)))), (7, .int (iz v7_17)), (0, .ref (ad 35)), (1, .int (iz v1)), (2, .int (iz v2)), (3, .int (iz v3)), (4, .int (iz v4)), (5, .int (iz v5)), (6, .int (iz v6))]) dX3_mend_92 rfl rfl rfl ?_
      refine z_goto (tgt := 52) X dX3_mend_95 rfl ?_
      exact z_sub [2, 3, 4, 5, 6, 7, 8, 1, 0] rfl (hC52 _ _ _ _ _ _ _ _ _ h)
set_option maxRecDepth 100000 in
theorem wkc_X3_mend_32 {Γ : ZG} {l : Launch} {D : va_G} {ds : Nat → ClassId} {ad : Nat → Nat} {post : Int → ZS → Prop} (X : ZX Γ cX3_mend RX3 4 75) (K : ZCap Γ l (ΘC D ds ad) 9 0 0) (hR : ZRetI Γ cX3_mend .int 0 0 post) : ∀ (N : Nat) (v1 : Int) (v2 : Int) (v3 : Int) (v4 : Int) (v5 : Int) (σ : ZS), zfix (wbc_X3_mend_32 post) N (v1, v2, v3, v4, v5, σ) → Z Γ 0 0 σ [] 32 [(0, .ref (ad 35)), (1, .int (iz v1)), (2, .int (iz v2)), (3, .int (iz v3)), (4, .int (iz v4)), (5, .int (iz v5))] [] := by
  intro N
  induction N with
  | zero => intro v1 v2 v3 v4 v5 σ h; exact False.elim h
  | succ N ih =>
    intro v1 v2 v3 v4 v5 σ h
    have h : wbc_X3_mend_32 post (zfix (wbc_X3_mend_32 post) N) (v1, v2, v3, v4, v5, σ) := h
    have hC32 := ih
    clear ih
    generalize zfix (wbc_X3_mend_32 post) N = C32 at h hC32
    dsimp only [wbc_X3_mend_32] at h
    refine z_iload X 5 dX3_mend_32 rfl ?_
    refine z_iload_n X 1 dX3_mend_34 rfl ?_
    obtain ⟨i1, h⟩ := h
    obtain ⟨i2, h⟩ := h
    refine z_icmp_ge X 132 dX3_mend_35 rfl i1 i2 (fun c3 => ?_) (fun c3 => ?_)
    · have h := h.1 c3
      refine z_iload X 4 dX3_mend_132 rfl ?_
      refine z_iload_n X 3 dX3_mend_134 rfl ?_
      obtain ⟨i4, h⟩ := h
      obtain ⟨i5, h⟩ := h
      refine z_icmp_ne X 151 dX3_mend_135 rfl i4 i5 (fun c6 => ?_) (fun c6 => ?_)
      · have h := h.1 c6
        refine z_iconst X (-1) dX3_mend_151 ?_
        exact hR _ _ _ _ _ _ _ dX3_mend_152 rfl (Nat.le_refl 0) (Nat.le_refl 0) h
      · have h := h.2 c6
        refine z_aload_n X 0 dX3_mend_138 rfl ?_
        refine z_iload_n X 1 dX3_mend_139 rfl ?_
        refine z_iload_n X 2 dX3_mend_140 rfl ?_
        refine clc_X3_43 X K rfl h (Nat.le_of_ble_eq_true rfl) dX3_mend_141 ⟨Nat.zero_le _, Nat.zero_le _⟩ (fun r8 σ7 h => ?_)
        obtain ⟨b8, h⟩ := h
        have h := h b8
        refine z_if_eq X 151 dX3_mend_144 rfl (InR_b b8) (fun c9 => ?_) (fun c9 => ?_)
        · have h := h.1 c9
          refine z_iconst X (-1) dX3_mend_151 ?_
          exact hR _ _ _ _ _ _ _ dX3_mend_152 rfl (Nat.le_refl 0) (Nat.le_refl 0) h
        · have h := h.2 c9
          refine z_iload_n X 3 dX3_mend_147 rfl ?_
          refine z_goto (tgt := 152) X dX3_mend_148 rfl ?_
          exact hR _ _ _ _ _ _ _ dX3_mend_152 rfl (Nat.le_refl 0) (Nat.le_refl 0) h
    · have h := h.2 c3
      refine z_iload_n X 1 dX3_mend_38 rfl ?_
      refine z_iconst X 1 dX3_mend_39 ?_
      refine z_isub X dX3_mend_40 ?_
      refine z_iload X 5 dX3_mend_41 rfl ?_
      refine z_isub X dX3_mend_43 ?_
      refine z_topi (fun v6_10 ev6_10 => ?_)
      have h := h v6_10 ev6_10
      refine z_istoreK X K (lv' := [(6, .int (iz v6_10)), (0, .ref (ad 35)), (1, .int (iz v1)), (2, .int (iz v2)), (3, .int (iz v3)), (4, .int (iz v4)), (5, .int (iz v5))]) dX3_mend_44 rfl rfl ?_
      refine z_iconst X 0 dX3_mend_46 ?_
      refine z_istoreK X K (lv' := [(7, .int (iz 0)), (6, .int (iz v6_10)), (0, .ref (ad 35)), (1, .int (iz v1)), (2, .int (iz v2)), (3, .int (iz v3)), (4, .int (iz v4)), (5, .int (iz v5))]) dX3_mend_47 rfl rfl ?_
      refine z_iload_n X 5 dX3_mend_49 rfl ?_
      refine z_istoreK X K (lv' := [(8, .int (iz v3)), (7, .int (iz 0)), (6, .int (iz v6_10)), (0, .ref (ad 35)), (1, .int (iz v1)), (2, .int (iz v2)), (3, .int (iz v3)), (4, .int (iz v4)), (5, .int (iz v5))]) dX3_mend_50 rfl rfl ?_
      obtain ⟨N, h⟩ := h
      exact z_sub [3, 4, 5, 6, 7, 8, 2, 1, 0] rfl (wkc_X3_mend_52 X K hR hC32 N _ _ _ _ _ _ _ _ _ h)
set_option maxRecDepth 100000 in
theorem mtc_X3_mend (l : Launch) (D : va_G) (ds : Nat → ClassId) (ad : Nat → Nat) (a0 : Int) (a1 : Int) (σ : ZS) (post : Int → ZS → Prop) (h : wc_X3_mend a0 a1 σ post) : ZMetI l (ΘC D ds ad) yX3_mend cX3_mend 9 .int 4 75 0 0 [.ref (ad 35), .int (iz a0), .int (iz a1)] σ post := by
  refine ZMetI.of (by decide) (Nat.le_of_ble_eq_true rfl) (fun Γ X K hR => ?_)
  have X : ZX Γ cX3_mend RX3 4 75 := X
  refine z_sub [0, 1, 2] (lv' := [(0, .ref (ad 35)), (1, .int (iz a0)), (2, .int (iz a1))]) rfl ?_
  refine z_aload_n X 0 dX3_mend_0 rfl ?_
  refine z_iload_n X 1 dX3_mend_1 rfl ?_
  refine z_iload_n X 2 dX3_mend_2 rfl ?_
  refine clc_X3_43 X K rfl h (Nat.le_of_ble_eq_true rfl) dX3_mend_3 ⟨Nat.zero_le _, Nat.zero_le _⟩ (fun r2 σ1 h => ?_)
  obtain ⟨b2, h⟩ := h
  have h := h b2
  refine z_if_eq X 11 dX3_mend_6 rfl (InR_b b2) (fun c3 => ?_) (fun c3 => ?_)
  · have h := h.1 c3
    refine z_aload_n X 0 dX3_mend_11 rfl ?_
    refine z_iload_n X 2 dX3_mend_12 rfl ?_
    refine clc_X3_47 X K rfl h (Nat.le_of_ble_eq_true rfl) dX3_mend_13 ⟨Nat.zero_le _, Nat.zero_le _⟩ (fun r5 σ4 h => ?_)
    refine z_istore_nK X K (lv' := [(3, .int (iz r5)), (0, .ref (ad 35)), (1, .int (iz a0)), (2, .int (iz a1))]) dX3_mend_16 rfl rfl ?_
    refine z_iload_n X 0 dX3_mend_17 rfl ?_
    refine z_iload_n X 3 dX3_mend_18 rfl ?_
    refine z_iconst X 2 dX3_mend_19 ?_
    obtain ⟨i6, h⟩ := h
    obtain ⟨g7, h⟩ := h
    refine z_idiv X dX3_mend_20 ⟨i6, (by decide), g7, (by decide)⟩ ?_
    obtain ⟨i8, h⟩ := h
    obtain ⟨i9, h⟩ := h
    refine z_icmp_le X 26 dX3_mend_21 rfl i8 i9 (fun c10 => ?_) (fun c10 => ?_)
    · have h := h.1 c10
      refine z_iconst X 0 dX3_mend_26 ?_
      refine z_istoreK X K (lv' := [(4, .int (iz 0)), (3, .int (iz r5)), (0, .ref (ad 35)), (1, .int (iz a0)), (2, .int (iz a1))]) dX3_mend_27 rfl rfl ?_
      refine z_iconst X 0 dX3_mend_29 ?_
      refine z_istoreK X K (lv' := [(5, .int (iz 0)), (4, .int (iz 0)), (3, .int (iz r5)), (0, .ref (ad 35)), (1, .int (iz a0)), (2, .int (iz a1))]) dX3_mend_30 rfl rfl ?_
      obtain ⟨N, h⟩ := h
      exact z_sub [3, 4, 5, 2, 1, 0] rfl (wkc_X3_mend_32 X K hR N _ _ _ _ _ _ h)
    · have h := h.2 c10
      refine z_iconst X (-1) dX3_mend_24 ?_
      exact hR _ _ _ _ _ _ _ dX3_mend_25 rfl (Nat.le_refl 0) (Nat.le_refl 0) h
  · have h := h.2 c3
    refine z_iconst X 0 dX3_mend_9 ?_
    exact hR _ _ _ _ _ _ _ dX3_mend_10 rfl (Nat.le_refl 0) (Nat.le_refl 0) h
/- X4_begin -/
set_option maxRecDepth 100000 in
theorem mtc_X4_begin (l : Launch) (D : va_G) (ds : Nat → ClassId) (ad : Nat → Nat) (o : Nat) (a0 : Int) (σ : ZS) (post : ZS → Prop) (h : wc_X4_begin o a0 σ post) : ZMetV l (ΘC D ds ad) yX4_begin cX4_begin 2 2 24 0 0 [.ref (ad o), .int (iz a0)] σ post := by
  refine ZMetV.of (by decide) (Nat.le_of_ble_eq_true rfl) (fun Γ X K hR => ?_)
  have X : ZX Γ cX4_begin RX4 2 24 := X
  refine z_sub [0, 1] (lv' := [(0, .ref (ad o)), (1, .int (iz a0))]) rfl ?_
  obtain ⟨ho, h⟩ := h
  refine z_aload_n X 0 dX4_begin_0 rfl ?_
  refine z_iload_n X 1 dX4_begin_1 rfl ?_
  refine pC_X4_19_X4 X K ho dX4_begin_2 (fun σ1 eσ1 => ?_)
  have h := h σ1 eσ1
  refine z_aload_n X 0 dX4_begin_5 rfl ?_
  refine z_iconst X 0 dX4_begin_6 ?_
  refine pC_X4_23_X4 X K ho dX4_begin_7 (fun σ2 eσ2 => ?_)
  have h := h σ2 eσ2
  refine z_aload_n X 0 dX4_begin_10 rfl ?_
  refine z_iconst X 0 dX4_begin_11 ?_
  refine pC_X4_26_X4 X K ho dX4_begin_12 (fun σ3 eσ3 => ?_)
  have h := h σ3 eσ3
  exact hR _ _ _ _ _ _ dX4_begin_15 (Nat.le_refl 0) (Nat.le_refl 0) h
/- X4_left -/
set_option maxRecDepth 100000 in
theorem mtc_X4_left (l : Launch) (D : va_G) (ds : Nat → ClassId) (ad : Nat → Nat) (σ : ZS) (post : Int → ZS → Prop) (h : wc_X4_left  σ post) : ZMetI l (ΘC D ds ad) yX4_left cX4_left 1 .int 2 24 0 0 [.ref (ad 45)] σ post := by
  refine ZMetI.of (by decide) (Nat.le_of_ble_eq_true rfl) (fun Γ X K hR => ?_)
  have X : ZX Γ cX4_left RX4 2 24 := X
  refine z_sub [0] (lv' := [(0, .ref (ad 45))]) rfl ?_
  refine z_aload_n X 0 dX4_left_0 rfl ?_
  refine gC_X4_19_X4 X K (Or.inl rfl) dX4_left_1 ?_
  refine z_aload_n X 0 dX4_left_4 rfl ?_
  refine gC_X4_23_X4 X K (Or.inl rfl) dX4_left_5 ?_
  refine z_isub X dX4_left_8 ?_
  exact hR _ _ _ _ _ _ _ dX4_left_9 rfl (Nat.le_refl 0) (Nat.le_refl 0) h
/- X4_tell -/
set_option maxRecDepth 100000 in
theorem mtc_X4_tell (l : Launch) (D : va_G) (ds : Nat → ClassId) (ad : Nat → Nat) (a0 : Int) (σ : ZS) (post : ZS → Prop) (h : wc_X4_tell a0 σ post) : ZMetV l (ΘC D ds ad) yX4_tell cX4_tell 2 2 24 0 0 [.ref (ad 45), .int (iz a0)] σ post := by
  refine ZMetV.of (by decide) (Nat.le_of_ble_eq_true rfl) (fun Γ X K hR => ?_)
  have X : ZX Γ cX4_tell RX4 2 24 := X
  refine z_sub [0, 1] (lv' := [(0, .ref (ad 45)), (1, .int (iz a0))]) rfl ?_
  refine z_aload_n X 0 dX4_tell_0 rfl ?_
  refine gC_X4_15_X4 X K (Or.inl rfl) dX4_tell_1 ?_
  refine z_aload_n X 0 dX4_tell_4 rfl ?_
  refine z_dup X dX4_tell_5 rfl ?_
  refine gC_X4_26_X4 X K (Or.inl rfl) dX4_tell_6 ?_
  refine z_dup_x1 X dX4_tell_9 rfl rfl ?_
  refine z_iconst X 1 dX4_tell_10 ?_
  refine z_iadd X dX4_tell_11 ?_
  refine pC_X4_26_X4 X K (Or.inl rfl) dX4_tell_12 (fun σ1 eσ1 => ?_)
  have h := h σ1 eσ1
  refine z_iload_n X 1 dX4_tell_15 rfl ?_
  refine z_i2b X dX4_tell_16 ?_
  obtain ⟨x2, h⟩ := h
  refine z_astB' X K 47 (Nat.le_of_ble_eq_true rfl) rfl rfl (Nat.le_of_ble_eq_true rfl) dX4_tell_17 x2 (z_nar_i2b _) (fun σ3 eσ3 => ?_)
  have h := h σ3 eσ3
  exact hR _ _ _ _ _ _ dX4_tell_18 (Nat.le_refl 0) (Nat.le_refl 0) h
/- X4_put -/
set_option maxRecDepth 100000 in
theorem mtc_X4_put (l : Launch) (D : va_G) (ds : Nat → ClassId) (ad : Nat → Nat) (a0 : Int) (σ : ZS) (post : ZS → Prop) (h : wc_X4_put a0 σ post) : ZMetV l (ΘC D ds ad) yX4_put cX4_put 2 2 24 0 0 [.ref (ad 48), .int (iz a0)] σ post := by
  refine ZMetV.of (by decide) (Nat.le_of_ble_eq_true rfl) (fun Γ X K hR => ?_)
  have X : ZX Γ cX4_put RX4 2 24 := X
  refine z_sub [0, 1] (lv' := [(0, .ref (ad 48)), (1, .int (iz a0))]) rfl ?_
  refine z_aload_n X 0 dX4_put_0 rfl ?_
  refine gC_X4_9_X4 X K (Or.inr rfl) dX4_put_1 ?_
  refine z_aload_n X 0 dX4_put_4 rfl ?_
  refine z_dup X dX4_put_5 rfl ?_
  refine gC_X4_23_X4 X K (Or.inr rfl) dX4_put_6 ?_
  refine z_dup_x1 X dX4_put_9 rfl rfl ?_
  refine z_iconst X 1 dX4_put_10 ?_
  refine z_iadd X dX4_put_11 ?_
  refine pC_X4_23_X4 X K (Or.inr rfl) dX4_put_12 (fun σ1 eσ1 => ?_)
  have h := h σ1 eσ1
  refine z_iload_n X 1 dX4_put_15 rfl ?_
  obtain ⟨x2, h⟩ := h
  refine z_ast' X K 49 (Nat.le_of_ble_eq_true rfl) rfl rfl (Nat.le_of_ble_eq_true rfl) dX4_put_16 x2 (fun σ3 eσ3 => ?_)
  have h := h σ3 eσ3
  exact hR _ _ _ _ _ _ dX4_put_17 (Nat.le_refl 0) (Nat.le_refl 0) h
/- X4_pad -/
set_option maxRecDepth 100000 in
theorem mtc_X4_pad (l : Launch) (D : va_G) (ds : Nat → ClassId) (ad : Nat → Nat) (a0 : Int) (σ : ZS) (post : Int → ZS → Prop) (h : wc_X4_pad a0 σ post) : ZMetI l (ΘC D ds ad) yX4_pad cX4_pad 2 .int 2 24 0 0 [.int (iz a0)] σ post := by
  refine ZMetI.of (by decide) (Nat.le_of_ble_eq_true rfl) (fun Γ X K hR => ?_)
  have X : ZX Γ cX4_pad RX4 2 24 := X
  refine z_sub [0] (lv' := [(0, .int (iz a0))]) rfl ?_
  refine z_sipush X 130 dX4_pad_0 rfl ?_
  refine z_sipush X 149 dX4_pad_3 rfl ?_
  refine z_iload_n X 0 dX4_pad_6 rfl ?_
  refine z_imul X dX4_pad_7 ?_
  refine z_sipush X 253 dX4_pad_8 rfl ?_
  obtain ⟨i1, h⟩ := h
  obtain ⟨g2, h⟩ := h
  refine z_irem X dX4_pad_11 ⟨i1, (by decide), g2, (by decide)⟩ ?_
  refine z_iadd X dX4_pad_12 ?_
  refine z_topi (fun v1_3 ev1_3 => ?_)
  have h := h v1_3 ev1_3
  refine z_istore_nK X K (lv' := [(1, .int (iz v1_3)), (0, .int (iz a0))]) dX4_pad_13 rfl rfl ?_
  refine z_iload_n X 0 dX4_pad_14 rfl ?_
  refine z_sipush X 254 dX4_pad_15 rfl ?_
  obtain ⟨i4, h⟩ := h
  refine z_icmp_le X 29 dX4_pad_18 rfl i4 (by decide) (fun c5 => ?_) (fun c5 => ?_)
  · have h := h.1 c5
    refine z_iload_n X 0 dX4_pad_29 rfl ?_
    exact hR _ _ _ _ _ _ _ dX4_pad_30 rfl (Nat.le_refl 0) (Nat.le_refl 0) h
  · have h := h.2 c5
    refine z_iload_n X 0 dX4_pad_21 rfl ?_
    refine z_sipush X 254 dX4_pad_22 rfl ?_
    refine z_isub X dX4_pad_25 ?_
    refine z_goto (tgt := 30) X dX4_pad_26 rfl ?_
    exact hR _ _ _ _ _ _ _ dX4_pad_30 rfl (Nat.le_refl 0) (Nat.le_refl 0) h
/- X4_pads -/
theorem clc_X4_32 {Γ : ZG} {cc : ByteArray} {fr lo nL mc0 ms0 k n pc : Nat} {xs : va_W} {lv : List (Nat × Value)} {st : List Value} {l : Launch} {D : va_G} {ds : Nat → ClassId} {ad : Nat → Nat} {a0 : Int} {σ : ZS} {post : Int → ZS → Prop} (X : ZX Γ cc RX4 fr lo) (K : ZCap Γ l (ΘC D ds ad) nL mc0 ms0) (hrm : zroom 3 45 fr lo = true) (h : wc_X4_pad a0 σ post) (hst : (st.map fun v => v.category).sum ≤ 8) (d : decode cc pc = .ok (.invokestatic 32, 3)) (hcs : k ≤ mc0 ∧ n ≤ ms0) (kk : ∀ (r : Int) (σ' : ZS), post r σ' → Z Γ k n σ' xs (pc + 3) lv (.int (iz r) :: st)) : Z Γ k n σ xs pc lv (.int (iz a0) :: st) := 
  z_callSI' X K (mtc_X4_pad l D ds ad a0 σ post h) (lw_S q901 q902 q111 q903) ⟨by decide, by decide, rfl⟩ (zroom_of (zroom_le hrm (by decide))) ⟨by rw [K.2.2.2.1]; exact hcs.1, by rw [K.2.2.2.2]; exact hcs.2⟩ hst d rfl kk
theorem clc_X4_36 {Γ : ZG} {cc : ByteArray} {fr lo nL mc0 ms0 k n pc : Nat} {xs : va_W} {lv : List (Nat × Value)} {st : List Value} {l : Launch} {D : va_G} {ds : Nat → ClassId} {ad : Nat → Nat} {a0 : Int} {σ : ZS} {post : ZS → Prop} (X : ZX Γ cc RX4 fr lo) (K : ZCap Γ l (ΘC D ds ad) nL mc0 ms0) (hrm : zroom 3 45 fr lo = true) (h : wc_X4_put a0 σ post) (hst : (st.map fun v => v.category).sum ≤ 8) (d : decode cc pc = .ok (.invokevirtual 36, 3)) (hcs : k ≤ mc0 ∧ n ≤ ms0) (kk : ∀ (σ' : ZS), post σ' → Z Γ k n σ' xs (pc + 3) lv (st)) : Z Γ k n σ xs pc lv (.int (iz a0) :: .ref (ad 48) :: st) := 
  z_callVV' (C := RX4) (q0 := 48) X K (mtc_X4_put l D ds ad a0 σ post h) (Nat.le_of_ble_eq_true rfl) rfl rfl rfl (lw_V q904 q773 q774 q111 q775) ⟨rfl, by decide, by decide, rfl⟩ (zroom_of (zroom_le hrm (by decide))) ⟨by rw [K.2.2.2.1]; exact hcs.1, by rw [K.2.2.2.2]; exact hcs.2⟩ hst d rfl kk
set_option maxRecDepth 100000 in
theorem wkc_X4_pads_0 {Γ : ZG} {l : Launch} {D : va_G} {ds : Nat → ClassId} {ad : Nat → Nat} {post : ZS → Prop} (X : ZX Γ cX4_pads RX4 3 45) (K : ZCap Γ l (ΘC D ds ad) 1 0 0) (hR : ZRetV Γ cX4_pads 0 0 post) : ∀ (N : Nat) (σ : ZS), zfix (wbc_X4_pads_0 post) N (σ) → Z Γ 0 0 σ [] 0 [(0, .ref (ad 48))] [] := by
  intro N
  induction N with
  | zero => intro  σ h; exact False.elim h
  | succ N ih =>
    intro  σ h
    have h : wbc_X4_pads_0 post (zfix (wbc_X4_pads_0 post) N) (σ) := h
    have hC0 := ih
    clear ih
    generalize zfix (wbc_X4_pads_0 post) N = C0 at h hC0
    dsimp only [wbc_X4_pads_0] at h
    refine z_aload_n X 0 dX4_pads_0 rfl ?_
    refine gC_X4_23_X4 X K (Or.inr rfl) dX4_pads_1 ?_
    refine z_aload_n X 0 dX4_pads_4 rfl ?_
    refine gC_X4_19_X4 X K (Or.inr rfl) dX4_pads_5 ?_
    obtain ⟨i1, h⟩ := h
    obtain ⟨i2, h⟩ := h
    refine z_icmp_ge X 27 dX4_pads_8 rfl i1 i2 (fun c3 => ?_) (fun c3 => ?_)
    · have h := h.1 c3
      exact hR _ _ _ _ _ _ dX4_pads_27 (Nat.le_refl 0) (Nat.le_refl 0) h
    · have h := h.2 c3
      refine z_aload_n X 0 dX4_pads_11 rfl ?_
      refine z_aload_n X 0 dX4_pads_12 rfl ?_
      refine gC_X4_23_X4 X K (Or.inr rfl) dX4_pads_13 ?_
      refine z_iconst X 1 dX4_pads_16 ?_
      refine z_iadd X dX4_pads_17 ?_
      refine clc_X4_32 X K rfl h (Nat.le_of_ble_eq_true rfl) dX4_pads_18 ⟨Nat.zero_le _, Nat.zero_le _⟩ (fun r5 σ4 h => ?_)
      refine clc_X4_36 X K rfl h (Nat.le_of_ble_eq_true rfl) dX4_pads_21 ⟨Nat.zero_le _, Nat.zero_le _⟩ (fun σ6 h => ?_)
      refine z_goto (tgt := 0) X dX4_pads_24 rfl ?_
      exact z_sub [0] rfl (hC0 _ h)
set_option maxRecDepth 100000 in
theorem mtc_X4_pads (l : Launch) (D : va_G) (ds : Nat → ClassId) (ad : Nat → Nat) (σ : ZS) (post : ZS → Prop) (h : wc_X4_pads  σ post) : ZMetV l (ΘC D ds ad) yX4_pads cX4_pads 1 3 45 0 0 [.ref (ad 48)] σ post := by
  refine ZMetV.of (by decide) (Nat.le_of_ble_eq_true rfl) (fun Γ X K hR => ?_)
  have X : ZX Γ cX4_pads RX4 3 45 := X
  refine z_sub [0] (lv' := [(0, .ref (ad 48))]) rfl ?_
  obtain ⟨N, h⟩ := h
  exact z_sub [0] rfl (wkc_X4_pads_0 X K hR N _ h)
/- X9_begin -/
set_option maxRecDepth 100000 in
theorem mtc_X9_begin (l : Launch) (D : va_G) (ds : Nat → ClassId) (ad : Nat → Nat) (σ : ZS) (post : ZS → Prop) (h : wc_X9_begin  σ post) : ZMetV l (ΘC D ds ad) yX9_begin cX9_begin 1 2 24 0 0 [.ref (ad 59)] σ post := by
  refine ZMetV.of (by decide) (Nat.le_of_ble_eq_true rfl) (fun Γ X K hR => ?_)
  have X : ZX Γ cX9_begin RX9 2 24 := X
  refine z_sub [0] (lv' := [(0, .ref (ad 59))]) rfl ?_
  exact hR _ _ _ _ _ _ dX9_begin_0 (Nat.le_refl 0) (Nat.le_refl 0) h
/- X9_end -/
set_option maxRecDepth 100000 in
theorem mtc_X9_end (l : Launch) (D : va_G) (ds : Nat → ClassId) (ad : Nat → Nat) (σ : ZS) (post : ZS → Prop) (h : wc_X9_end  σ post) : ZMetV l (ΘC D ds ad) yX9_end cX9_end 1 2 24 0 0 [.ref (ad 59)] σ post := by
  refine ZMetV.of (by decide) (Nat.le_of_ble_eq_true rfl) (fun Γ X K hR => ?_)
  have X : ZX Γ cX9_end RX9 2 24 := X
  refine z_sub [0] (lv' := [(0, .ref (ad 59))]) rfl ?_
  exact hR _ _ _ _ _ _ dX9_end_0 (Nat.le_refl 0) (Nat.le_refl 0) h
/- X9_take -/
theorem clc_X9_15 {Γ : ZG} {cc : ByteArray} {fr lo nL mc0 ms0 k n pc : Nat} {xs : va_W} {lv : List (Nat × Value)} {st : List Value} {l : Launch} {D : va_G} {ds : Nat → ClassId} {ad : Nat → Nat} {a0 : Int} {σ : ZS} {post : ZS → Prop} (X : ZX Γ cc RX9 fr lo) (K : ZCap Γ l (ΘC D ds ad) nL mc0 ms0) (hrm : zroom 3 45 fr lo = true) (h : wc_X4_tell a0 σ post) (hst : (st.map fun v => v.category).sum ≤ 8) (d : decode cc pc = .ok (.invokevirtual 15, 3)) (hcs : k ≤ mc0 ∧ n ≤ ms0) (kk : ∀ (σ' : ZS), post σ' → Z Γ k n σ' xs (pc + 3) lv (st)) : Z Γ k n σ xs pc lv (.int (iz a0) :: .ref (ad 45) :: st) := 
  z_callVV' (C := RX4) (q0 := 45) X K (mtc_X4_tell l D ds ad a0 σ post h) (Nat.le_of_ble_eq_true rfl) rfl rfl rfl (lw_V q1092 q1019 q1020 q111 q1021) ⟨rfl, by decide, by decide, rfl⟩ (zroom_of (zroom_le hrm (by decide))) ⟨by rw [K.2.2.2.1]; exact hcs.1, by rw [K.2.2.2.2]; exact hcs.2⟩ hst d rfl kk
set_option maxRecDepth 100000 in
theorem wkc_X9_take_57 {Γ : ZG} {l : Launch} {D : va_G} {ds : Nat → ClassId} {ad : Nat → Nat} {post : ZS → Prop} (X : ZX Γ cX9_take RX9 3 45) (K : ZCap Γ l (ΘC D ds ad) 4 0 0) (hR : ZRetV Γ cX9_take 0 0 post) (t0 : Int) (σ : ZS) (h : wc_X9_take_57 post t0 σ) : Z Γ 0 0 σ [] 57 [] [.int (iz t0), .ref (ad 45)] := by
  refine clc_X9_15 X K rfl h (Nat.le_of_ble_eq_true rfl) dX9_take_57 ⟨Nat.zero_le _, Nat.zero_le _⟩ (fun σ1 h => ?_)
  exact hR _ _ _ _ _ _ dX9_take_60 (Nat.le_refl 0) (Nat.le_refl 0) h
set_option maxRecDepth 100000 in
theorem mtc_X9_take (l : Launch) (D : va_G) (ds : Nat → ClassId) (ad : Nat → Nat) (a1 : Int) (a2 : Int) (σ : ZS) (post : ZS → Prop) (h : wc_X9_take a1 a2 σ post) : ZMetV l (ΘC D ds ad) yX9_take cX9_take 4 3 45 0 0 [.ref (ad 59), .ref (ad 45), .int (iz a1), .int (iz a2)] σ post := by
  refine ZMetV.of (by decide) (Nat.le_of_ble_eq_true rfl) (fun Γ X K hR => ?_)
  have X : ZX Γ cX9_take RX9 3 45 := X
  refine z_sub [0, 1, 2, 3] (lv' := [(0, .ref (ad 59)), (1, .ref (ad 45)), (2, .int (iz a1)), (3, .int (iz a2))]) rfl ?_
  refine z_aload_n X 1 dX9_take_0 rfl ?_
  refine z_iload_n X 2 dX9_take_1 rfl ?_
  obtain ⟨i1, h⟩ := h
  refine z_if_ne X 10 dX9_take_2 rfl i1 (fun c2 => ?_) (fun c2 => ?_)
  · have h := h.1 c2
    refine z_iload_n X 2 dX9_take_10 rfl ?_
    refine z_iconst X 1 dX9_take_11 ?_
    refine z_icmp_ne X 20 dX9_take_12 rfl i1 (by decide) (fun c3 => ?_) (fun c3 => ?_)
    · have h := h.1 c3
      refine z_iload_n X 2 dX9_take_20 rfl ?_
      refine z_iconst X 2 dX9_take_21 ?_
      refine z_icmp_ne X 30 dX9_take_22 rfl i1 (by decide) (fun c4 => ?_) (fun c4 => ?_)
      · have h := h.1 c4
        refine z_iload_n X 2 dX9_take_30 rfl ?_
        refine z_iconst X 3 dX9_take_31 ?_
        refine z_icmp_ne X 40 dX9_take_32 rfl i1 (by decide) (fun c5 => ?_) (fun c5 => ?_)
        · have h := h.1 c5
          refine z_iload_n X 2 dX9_take_40 rfl ?_
          refine z_bipush X 14 dX9_take_41 rfl ?_
          refine z_icmp_ge X 53 dX9_take_43 rfl i1 (by decide) (fun c6 => ?_) (fun c6 => ?_)
          · have h := h.1 c6
            refine z_iload_n X 2 dX9_take_53 rfl ?_
            refine z_bipush X 51 dX9_take_54 rfl ?_
            refine z_iadd X dX9_take_56 ?_
            exact z_sub [] rfl (wkc_X9_take_57 X K hR _ _ h)
          · have h := h.2 c6
            refine z_iload_n X 2 dX9_take_46 rfl ?_
            refine z_bipush X 44 dX9_take_47 rfl ?_
            refine z_iadd X dX9_take_49 ?_
            refine z_goto (tgt := 57) X dX9_take_50 rfl ?_
            exact z_sub [] rfl (wkc_X9_take_57 X K hR _ _ h)
        · have h := h.2 c5
          refine z_bipush X 32 dX9_take_35 rfl ?_
          refine z_goto (tgt := 57) X dX9_take_37 rfl ?_
          exact z_sub [] rfl (wkc_X9_take_57 X K hR _ _ h)
      · have h := h.2 c4
        refine z_bipush X 62 dX9_take_25 rfl ?_
        refine z_goto (tgt := 57) X dX9_take_27 rfl ?_
        exact z_sub [] rfl (wkc_X9_take_57 X K hR _ _ h)
    · have h := h.2 c3
      refine z_bipush X 42 dX9_take_15 rfl ?_
      refine z_goto (tgt := 57) X dX9_take_17 rfl ?_
      exact z_sub [] rfl (wkc_X9_take_57 X K hR _ _ h)
  · have h := h.2 c2
    refine z_bipush X 13 dX9_take_5 rfl ?_
    refine z_goto (tgt := 57) X dX9_take_7 rfl ?_
    exact z_sub [] rfl (wkc_X9_take_57 X K hR _ _ h)
/- X9_valueOf -/
set_option maxRecDepth 100000 in
theorem wkc_X9_valueOf_59 {Γ : ZG} {l : Launch} {D : va_G} {ds : Nat → ClassId} {ad : Nat → Nat} {post : Int → ZS → Prop} (X : ZX Γ cX9_valueOf RX9 2 24) (K : ZCap Γ l (ΘC D ds ad) 1 0 0) (hR : ZRetI Γ cX9_valueOf .int 0 0 post) (v0 : Int) (σ : ZS) (h : wc_X9_valueOf_59 post v0 σ) : Z Γ 0 0 σ [] 59 [(0, .int (iz v0))] [] := by
  refine z_iload_n X 0 dX9_valueOf_59 rfl ?_
  refine z_bipush X 65 dX9_valueOf_60 rfl ?_
  obtain ⟨i1, h⟩ := h
  refine z_icmp_lt X 78 dX9_valueOf_62 rfl i1 (by decide) (fun c2 => ?_) (fun c2 => ?_)
  · have h := h.1 c2
    refine z_iconst X (-1) dX9_valueOf_78 ?_
    exact hR _ _ _ _ _ _ _ dX9_valueOf_79 rfl (Nat.le_refl 0) (Nat.le_refl 0) h
  · have h := h.2 c2
    refine z_iload_n X 0 dX9_valueOf_65 rfl ?_
    refine z_bipush X 90 dX9_valueOf_66 rfl ?_
    refine z_icmp_gt X 78 dX9_valueOf_68 rfl i1 (by decide) (fun c3 => ?_) (fun c3 => ?_)
    · have h := h.1 c3
      refine z_iconst X (-1) dX9_valueOf_78 ?_
      exact hR _ _ _ _ _ _ _ dX9_valueOf_79 rfl (Nat.le_refl 0) (Nat.le_refl 0) h
    · have h := h.2 c3
      refine z_iload_n X 0 dX9_valueOf_71 rfl ?_
      refine z_bipush X 51 dX9_valueOf_72 rfl ?_
      refine z_isub X dX9_valueOf_74 ?_
      refine z_goto (tgt := 79) X dX9_valueOf_75 rfl ?_
      exact hR _ _ _ _ _ _ _ dX9_valueOf_79 rfl (Nat.le_refl 0) (Nat.le_refl 0) h
set_option maxRecDepth 100000 in
theorem mtc_X9_valueOf (l : Launch) (D : va_G) (ds : Nat → ClassId) (ad : Nat → Nat) (a0 : Int) (σ : ZS) (post : Int → ZS → Prop) (h : wc_X9_valueOf a0 σ post) : ZMetI l (ΘC D ds ad) yX9_valueOf cX9_valueOf 1 .int 2 24 0 0 [.int (iz a0)] σ post := by
  refine ZMetI.of (by decide) (Nat.le_of_ble_eq_true rfl) (fun Γ X K hR => ?_)
  have X : ZX Γ cX9_valueOf RX9 2 24 := X
  refine z_sub [0] (lv' := [(0, .int (iz a0))]) rfl ?_
  refine z_iload_n X 0 dX9_valueOf_0 rfl ?_
  refine z_bipush X 13 dX9_valueOf_1 rfl ?_
  obtain ⟨i1, h⟩ := h
  refine z_icmp_ne X 10 dX9_valueOf_3 rfl i1 (by decide) (fun c2 => ?_) (fun c2 => ?_)
  · have h := h.1 c2
    refine z_iload_n X 0 dX9_valueOf_10 rfl ?_
    refine z_bipush X 42 dX9_valueOf_11 rfl ?_
    refine z_icmp_ne X 20 dX9_valueOf_13 rfl i1 (by decide) (fun c3 => ?_) (fun c3 => ?_)
    · have h := h.1 c3
      refine z_iload_n X 0 dX9_valueOf_20 rfl ?_
      refine z_bipush X 62 dX9_valueOf_21 rfl ?_
      refine z_icmp_ne X 30 dX9_valueOf_23 rfl i1 (by decide) (fun c4 => ?_) (fun c4 => ?_)
      · have h := h.1 c4
        refine z_iload_n X 0 dX9_valueOf_30 rfl ?_
        refine z_bipush X 32 dX9_valueOf_31 rfl ?_
        refine z_icmp_ne X 40 dX9_valueOf_33 rfl i1 (by decide) (fun c5 => ?_) (fun c5 => ?_)
        · have h := h.1 c5
          refine z_iload_n X 0 dX9_valueOf_40 rfl ?_
          refine z_bipush X 48 dX9_valueOf_41 rfl ?_
          refine z_icmp_lt X 59 dX9_valueOf_43 rfl i1 (by decide) (fun c6 => ?_) (fun c6 => ?_)
          · have h := h.1 c6
            exact z_sub [0] rfl (wkc_X9_valueOf_59 X K hR _ _ h)
          · have h := h.2 c6
            refine z_iload_n X 0 dX9_valueOf_46 rfl ?_
            refine z_bipush X 57 dX9_valueOf_47 rfl ?_
            refine z_icmp_gt X 59 dX9_valueOf_49 rfl i1 (by decide) (fun c7 => ?_) (fun c7 => ?_)
            · have h := h.1 c7
              exact z_sub [0] rfl (wkc_X9_valueOf_59 X K hR _ _ h)
            · have h := h.2 c7
              refine z_iload_n X 0 dX9_valueOf_52 rfl ?_
              refine z_bipush X 44 dX9_valueOf_53 rfl ?_
              refine z_isub X dX9_valueOf_55 ?_
              refine z_goto (tgt := 79) X dX9_valueOf_56 rfl ?_
              exact hR _ _ _ _ _ _ _ dX9_valueOf_79 rfl (Nat.le_refl 0) (Nat.le_refl 0) h
        · have h := h.2 c5
          refine z_iconst X 3 dX9_valueOf_36 ?_
          refine z_goto (tgt := 79) X dX9_valueOf_37 rfl ?_
          exact hR _ _ _ _ _ _ _ dX9_valueOf_79 rfl (Nat.le_refl 0) (Nat.le_refl 0) h
      · have h := h.2 c4
        refine z_iconst X 2 dX9_valueOf_26 ?_
        refine z_goto (tgt := 79) X dX9_valueOf_27 rfl ?_
        exact hR _ _ _ _ _ _ _ dX9_valueOf_79 rfl (Nat.le_refl 0) (Nat.le_refl 0) h
    · have h := h.2 c3
      refine z_iconst X 1 dX9_valueOf_16 ?_
      refine z_goto (tgt := 79) X dX9_valueOf_17 rfl ?_
      exact hR _ _ _ _ _ _ _ dX9_valueOf_79 rfl (Nat.le_refl 0) (Nat.le_refl 0) h
  · have h := h.2 c2
    refine z_iconst X 0 dX9_valueOf_6 ?_
    refine z_goto (tgt := 79) X dX9_valueOf_7 rfl ?_
    exact hR _ _ _ _ _ _ _ dX9_valueOf_79 rfl (Nat.le_refl 0) (Nat.le_refl 0) h
/- X7_add -/
set_option maxRecDepth 100000 in
theorem mtc_X7_add (l : Launch) (D : va_G) (ds : Nat → ClassId) (ad : Nat → Nat) (o : Nat) (a0 : Int) (σ : ZS) (post : ZS → Prop) (h : wc_X7_add o a0 σ post) : ZMetV l (ΘC D ds ad) yX7_add cX7_add 2 2 24 0 0 [.ref (ad o), .int (iz a0)] σ post := by
  refine ZMetV.of (by decide) (Nat.le_of_ble_eq_true rfl) (fun Γ X K hR => ?_)
  have X : ZX Γ cX7_add RX7 2 24 := X
  refine z_sub [0, 1] (lv' := [(0, .ref (ad o)), (1, .int (iz a0))]) rfl ?_
  obtain ⟨ho, h⟩ := h
  refine z_aload_n X 0 dX7_add_0 rfl ?_
  refine gC_X7_9_Th X K ho dX7_add_1 ?_
  refine z_aload_n X 0 dX7_add_4 rfl ?_
  refine z_dup X dX7_add_5 rfl ?_
  refine gC_X7_40_Th X K ho dX7_add_6 ?_
  refine z_dup_x1 X dX7_add_9 rfl rfl ?_
  refine z_iconst X 1 dX7_add_10 ?_
  refine z_iadd X dX7_add_11 ?_
  refine pC_X7_40_Th X K ho dX7_add_12 (fun σ1 eσ1 => ?_)
  have h := h σ1 eσ1
  refine z_iload_n X 1 dX7_add_15 rfl ?_
  obtain ⟨x2, h⟩ := h
  refine z_ast' X K (o + 1) (hq_Th_1 ho) (hL_Th_1 ho) rfl (Nat.le_of_ble_eq_true rfl) dX7_add_16 x2 (fun σ3 eσ3 => ?_)
  have h := h σ3 eσ3
  exact hR _ _ _ _ _ _ dX7_add_17 (Nat.le_refl 0) (Nat.le_refl 0) h
/- X9_values -/
theorem clc_X9_20 {Γ : ZG} {cc : ByteArray} {fr lo nL mc0 ms0 k n pc : Nat} {xs : va_W} {lv : List (Nat × Value)} {st : List Value} {l : Launch} {D : va_G} {ds : Nat → ClassId} {ad : Nat → Nat} {a0 : Int} {σ : ZS} {post : Int → ZS → Prop} (X : ZX Γ cc RX9 fr lo) (K : ZCap Γ l (ΘC D ds ad) nL mc0 ms0) (hrm : zroom 3 44 fr lo = true) (h : wc_X9_valueOf a0 σ post) (hst : (st.map fun v => v.category).sum ≤ 8) (d : decode cc pc = .ok (.invokestatic 20, 3)) (hcs : k ≤ mc0 ∧ n ≤ ms0) (kk : ∀ (r : Int) (σ' : ZS), post r σ' → Z Γ k n σ' xs (pc + 3) lv (.int (iz r) :: st)) : Z Γ k n σ xs pc lv (.int (iz a0) :: st) := 
  z_callSI' X K (mtc_X9_valueOf l D ds ad a0 σ post h) (lw_S q629 q630 q123 q631) ⟨by decide, by decide, rfl⟩ (zroom_of (zroom_le hrm (by decide))) ⟨by rw [K.2.2.2.1]; exact hcs.1, by rw [K.2.2.2.2]; exact hcs.2⟩ hst d rfl kk
theorem clc_X9_24 {Γ : ZG} {cc : ByteArray} {fr lo nL mc0 ms0 k n pc : Nat} {xs : va_W} {lv : List (Nat × Value)} {st : List Value} {l : Launch} {D : va_G} {ds : Nat → ClassId} {ad : Nat → Nat} {a0 : Int} {σ : ZS} {post : ZS → Prop} (X : ZX Γ cc RX9 fr lo) (K : ZCap Γ l (ΘC D ds ad) nL mc0 ms0) (hrm : zroom 3 45 fr lo = true) (h : wc_X7_add 59 a0 σ post) (hst : (st.map fun v => v.category).sum ≤ 8) (d : decode cc pc = .ok (.invokevirtual 24, 3)) (hcs : k ≤ mc0 ∧ n ≤ ms0) (kk : ∀ (σ' : ZS), post σ' → Z Γ k n σ' xs (pc + 3) lv (st)) : Z Γ k n σ xs pc lv (.int (iz a0) :: .ref (ad 59) :: st) := 
  z_callUV' (C := RX9) (owner := "MatrixPress$Threes") (q0 := 59) X K (mtc_X7_add l D ds ad 59 a0 σ post h) (Nat.le_of_ble_eq_true rfl) rfl rfl rfl (lw_U q823 q824 q825 q814 q117 q815) (va_Decl.abs (X.nw q812 rfl)) ⟨by decide, by decide, rfl⟩ (zroom_of (zroom_le hrm (by decide))) ⟨by rw [K.2.2.2.1]; exact hcs.1, by rw [K.2.2.2.2]; exact hcs.2⟩ hst d rfl kk
set_option maxRecDepth 100000 in
theorem mtc_X9_values (l : Launch) (D : va_G) (ds : Nat → ClassId) (ad : Nat → Nat) (a0 : Int) (σ : ZS) (post : ZS → Prop) (h : wc_X9_values a0 σ post) : ZMetV l (ΘC D ds ad) yX9_values cX9_values 2 3 45 0 0 [.ref (ad 59), .int (iz a0)] σ post := by
  refine ZMetV.of (by decide) (Nat.le_of_ble_eq_true rfl) (fun Γ X K hR => ?_)
  have X : ZX Γ cX9_values RX9 3 45 := X
  refine z_sub [0, 1] (lv' := [(0, .ref (ad 59)), (1, .int (iz a0))]) rfl ?_
  refine z_aload_n X 0 dX9_values_0 rfl ?_
  refine z_iload_n X 1 dX9_values_1 rfl ?_
  refine clc_X9_20 X K rfl h (Nat.le_of_ble_eq_true rfl) dX9_values_2 ⟨Nat.zero_le _, Nat.zero_le _⟩ (fun r2 σ1 h => ?_)
  refine clc_X9_24 X K rfl h (Nat.le_of_ble_eq_true rfl) dX9_values_5 ⟨Nat.zero_le _, Nat.zero_le _⟩ (fun σ3 h => ?_)
  exact hR _ _ _ _ _ _ dX9_values_8 (Nat.le_refl 0) (Nat.le_refl 0) h
/- X9_prepare -/
set_option maxRecDepth 100000 in
theorem wkc_X9_prepare_47 {Γ : ZG} {l : Launch} {D : va_G} {ds : Nat → ClassId} {ad : Nat → Nat} {post : ZS → Prop} (X : ZX Γ cX9_prepare RX9 3 44) (K : ZCap Γ l (ΘC D ds ad) 4 0 0) (hR : ZRetV Γ cX9_prepare 0 0 post) {C11 : Int × ZS → Prop} (hC11 : ∀ (v3 : Int) (σ : ZS), C11 (v3, σ) → Z Γ 0 0 σ [] 11 [(0, .ref (ad 59)), (1, .ref (ad 66)), (3, .int (iz v3))] []) (v3 : Int) (t0 : Int) (t1 : Int) (σ : ZS) (h : wc_X9_prepare_47 C11 post v3 t0 t1 σ) : Z Γ 0 0 σ [] 47 [(0, .ref (ad 59)), (1, .ref (ad 66)), (3, .int (iz v3))] [.int (iz t0), .int (iz t1), .ref (ad 61)] := by
  obtain ⟨x1, h⟩ := h
  refine z_ast' X K 61 (Nat.le_of_ble_eq_true rfl) rfl rfl (Nat.le_of_ble_eq_true rfl) dX9_prepare_47 x1 (fun σ2 eσ2 => ?_)
  have h := h σ2 eσ2
  refine z_iincK X K 2 (lv' := [(3, .int (iz (v3 + (-1)))), (0, .ref (ad 59)), (1, .ref (ad 66))]) dX9_prepare_48 rfl rfl rfl ?_
  refine z_goto (tgt := 11) X dX9_prepare_51 rfl ?_
  exact z_sub [1, 2, 0] rfl (hC11 _ _ h)
set_option maxRecDepth 100000 in
theorem wkc_X9_prepare_11 {Γ : ZG} {l : Launch} {D : va_G} {ds : Nat → ClassId} {ad : Nat → Nat} {post : ZS → Prop} (X : ZX Γ cX9_prepare RX9 3 44) (K : ZCap Γ l (ΘC D ds ad) 4 0 0) (hR : ZRetV Γ cX9_prepare 0 0 post) : ∀ (N : Nat) (v3 : Int) (σ : ZS), zfix (wbc_X9_prepare_11 post) N (v3, σ) → Z Γ 0 0 σ [] 11 [(0, .ref (ad 59)), (1, .ref (ad 66)), (3, .int (iz v3))] [] := by
  intro N
  induction N with
  | zero => intro v3 σ h; exact False.elim h
  | succ N ih =>
    intro v3 σ h
    have h : wbc_X9_prepare_11 post (zfix (wbc_X9_prepare_11 post) N) (v3, σ) := h
    have hC11 := ih
    clear ih
    generalize zfix (wbc_X9_prepare_11 post) N = C11 at h hC11
    dsimp only [wbc_X9_prepare_11] at h
    refine z_iload_n X 2 dX9_prepare_11 rfl ?_
    obtain ⟨i1, h⟩ := h
    refine z_if_lt X 54 dX9_prepare_12 rfl i1 (fun c2 => ?_) (fun c2 => ?_)
    · have h := h.1 c2
      exact hR _ _ _ _ _ _ dX9_prepare_54 (Nat.le_refl 0) (Nat.le_refl 0) h
    · have h := h.2 c2
      refine z_aload_n X 0 dX9_prepare_15 rfl ?_
      refine gC_X9_9_X9 X K dX9_prepare_16 ?_
      refine z_iload_n X 2 dX9_prepare_19 rfl ?_
      refine z_aload_n X 1 dX9_prepare_20 rfl ?_
      refine z_iload_n X 2 dX9_prepare_21 rfl ?_
      obtain ⟨x3, h⟩ := h
      refine z_aldB' X K 66 (Nat.le_of_ble_eq_true rfl) rfl rfl (Nat.le_of_ble_eq_true rfl) dX9_prepare_22 x3 ?_
      refine z_sipush X 255 dX9_prepare_23 rfl ?_
      refine z_iandm X 8 (M := 256) rfl rfl rfl dX9_prepare_26 ?_
      refine clc_X9_20 X K rfl h (Nat.le_of_ble_eq_true rfl) dX9_prepare_27 ⟨Nat.zero_le _, Nat.zero_le _⟩ (fun r5 σ4 h => ?_)
      obtain ⟨i6, h⟩ := h
      refine z_if_ge X 37 dX9_prepare_30 rfl i6 (fun c7 => ?_) (fun c7 => ?_)
      · have h := h.1 c7
        refine z_aload_n X 0 dX9_prepare_37 rfl ?_
        refine gC_X9_9_X9 X K dX9_prepare_38 ?_
        refine z_iload_n X 2 dX9_prepare_41 rfl ?_
        refine z_iconst X 1 dX9_prepare_42 ?_
        refine z_iadd X dX9_prepare_43 ?_
        obtain ⟨x8, h⟩ := h
        refine z_ald' X K 61 (Nat.le_of_ble_eq_true rfl) rfl rfl (Nat.le_of_ble_eq_true rfl) dX9_prepare_44 x8 ?_
        refine z_iconst X 1 dX9_prepare_45 ?_
        refine z_iadd X dX9_prepare_46 ?_
        exact z_sub [0, 1, 2] rfl (wkc_X9_prepare_47 X K hR hC11 _ _ _ _ h)
      · have h := h.2 c7
        refine z_iconst X 0 dX9_prepare_33 ?_
        refine z_goto (tgt := 47) X dX9_prepare_34 rfl ?_
        exact z_sub [0, 1, 2] rfl (wkc_X9_prepare_47 X K hR hC11 _ _ _ _ h)
set_option maxRecDepth 100000 in
theorem mtc_X9_prepare (l : Launch) (D : va_G) (ds : Nat → ClassId) (ad : Nat → Nat) (a1 : Int) (σ : ZS) (post : ZS → Prop) (h : wc_X9_prepare a1 σ post) : ZMetV l (ΘC D ds ad) yX9_prepare cX9_prepare 4 3 44 0 0 [.ref (ad 59), .ref (ad 66), .int (iz a1)] σ post := by
  refine ZMetV.of (by decide) (Nat.le_of_ble_eq_true rfl) (fun Γ X K hR => ?_)
  have X : ZX Γ cX9_prepare RX9 3 44 := X
  refine z_sub [0, 1, 2] (lv' := [(0, .ref (ad 59)), (1, .ref (ad 66)), (2, .int (iz a1))]) rfl ?_
  refine z_aload_n X 0 dX9_prepare_0 rfl ?_
  refine gC_X9_9_X9 X K dX9_prepare_1 ?_
  refine z_iload_n X 2 dX9_prepare_4 rfl ?_
  refine z_iconst X 0 dX9_prepare_5 ?_
  obtain ⟨x1, h⟩ := h
  refine z_ast' X K 61 (Nat.le_of_ble_eq_true rfl) rfl rfl (Nat.le_of_ble_eq_true rfl) dX9_prepare_6 x1 (fun σ2 eσ2 => ?_)
  have h := h σ2 eσ2
  refine z_iload_n X 2 dX9_prepare_7 rfl ?_
  refine z_iconst X 1 dX9_prepare_8 ?_
  refine z_isub X dX9_prepare_9 ?_
  refine z_istore_nK X K (lv' := [(3, .int (iz (a1 - 1))), (0, .ref (ad 59)), (1, .ref (ad 66)), (2, .int (iz a1))]) dX9_prepare_10 rfl rfl ?_
  obtain ⟨N, h⟩ := h
  exact z_sub [1, 2, 0] rfl (wkc_X9_prepare_11 X K hR N _ _ h)
/- X9_open -/
set_option maxRecDepth 100000 in
theorem wkc_X9_open_26 {Γ : ZG} {l : Launch} {D : va_G} {ds : Nat → ClassId} {ad : Nat → Nat} {post : Int → ZS → Prop} (X : ZX Γ cX9_open RX9 2 24) (K : ZCap Γ l (ΘC D ds ad) 3 0 0) (hR : ZRetI Γ cX9_open .int 0 0 post) (σ : ZS) (h : wc_X9_open_26 post σ) : Z Γ 0 0 σ [] 26 [] [] := by
  refine z_ldc X 1000000 q669 rfl dX9_open_26 ?_
  exact hR _ _ _ _ _ _ _ dX9_open_28 rfl (Nat.le_refl 0) (Nat.le_refl 0) h
set_option maxRecDepth 100000 in
theorem mtc_X9_open (l : Launch) (D : va_G) (ds : Nat → ClassId) (ad : Nat → Nat) (a0 : Int) (a1 : Int) (σ : ZS) (post : Int → ZS → Prop) (h : wc_X9_open a0 a1 σ post) : ZMetI l (ΘC D ds ad) yX9_open cX9_open 3 .int 2 24 0 0 [.ref (ad 59), .int (iz a0), .int (iz a1)] σ post := by
  refine ZMetI.of (by decide) (Nat.le_of_ble_eq_true rfl) (fun Γ X K hR => ?_)
  have X : ZX Γ cX9_open RX9 2 24 := X
  refine z_sub [0, 1, 2] (lv' := [(0, .ref (ad 59)), (1, .int (iz a0)), (2, .int (iz a1))]) rfl ?_
  refine z_iload_n X 2 dX9_open_0 rfl ?_
  refine z_iconst X 3 dX9_open_1 ?_
  obtain ⟨i1, h⟩ := h
  obtain ⟨g2, h⟩ := h
  refine z_irem X dX9_open_2 ⟨i1, (by decide), g2, (by decide)⟩ ?_
  obtain ⟨i3, h⟩ := h
  refine z_if_ne X 26 dX9_open_3 rfl i3 (fun c4 => ?_) (fun c4 => ?_)
  · have h := h.1 c4
    exact z_sub [] rfl (wkc_X9_open_26 X K hR _ h)
  · have h := h.2 c4
    refine z_iload_n X 2 dX9_open_6 rfl ?_
    refine z_aload_n X 0 dX9_open_7 rfl ?_
    refine gC_X9_9_X9 X K dX9_open_8 ?_
    refine z_iload_n X 1 dX9_open_11 rfl ?_
    obtain ⟨x5, h⟩ := h
    refine z_ald' X K 61 (Nat.le_of_ble_eq_true rfl) rfl rfl (Nat.le_of_ble_eq_true rfl) dX9_open_12 x5 ?_
    obtain ⟨i6, h⟩ := h
    refine z_icmp_gt X 26 dX9_open_13 rfl i1 i6 (fun c7 => ?_) (fun c7 => ?_)
    · have h := h.1 c7
      exact z_sub [] rfl (wkc_X9_open_26 X K hR _ h)
    · have h := h.2 c7
      refine z_iconst X 1 dX9_open_16 ?_
      refine z_iload_n X 2 dX9_open_17 rfl ?_
      refine z_iconst X 3 dX9_open_18 ?_
      refine z_idiv X dX9_open_19 ⟨i1, (by decide), g2, (by decide)⟩ ?_
      refine z_iconst X 2 dX9_open_20 ?_
      refine z_imul X dX9_open_21 ?_
      refine z_iadd X dX9_open_22 ?_
      refine z_goto (tgt := 28) X dX9_open_23 rfl ?_
      exact hR _ _ _ _ _ _ _ dX9_open_28 rfl (Nat.le_refl 0) (Nat.le_refl 0) h
/- X9_closed -/
theorem clc_X9_28 {Γ : ZG} {cc : ByteArray} {fr lo nL mc0 ms0 k n pc : Nat} {xs : va_W} {lv : List (Nat × Value)} {st : List Value} {l : Launch} {D : va_G} {ds : Nat → ClassId} {ad : Nat → Nat} {a0 : Int} {a1 : Int} {σ : ZS} {post : Int → ZS → Prop} (X : ZX Γ cc RX9 fr lo) (K : ZCap Γ l (ΘC D ds ad) nL mc0 ms0) (hrm : zroom 3 46 fr lo = true) (h : wc_X9_open a0 a1 σ post) (hst : (st.map fun v => v.category).sum ≤ 8) (d : decode cc pc = .ok (.invokevirtual 28, 3)) (hcs : k ≤ mc0 ∧ n ≤ ms0) (kk : ∀ (r : Int) (σ' : ZS), post r σ' → Z Γ k n σ' xs (pc + 3) lv (.int (iz r) :: st)) : Z Γ k n σ xs pc lv (.int (iz a1) :: .int (iz a0) :: .ref (ad 59) :: st) := 
  z_callVI' (C := RX9) (q0 := 59) X K (mtc_X9_open l D ds ad a0 a1 σ post h) (Nat.le_of_ble_eq_true rfl) rfl rfl rfl (lw_V q665 q666 q667 q123 q668) ⟨rfl, by decide, by decide, rfl⟩ (zroom_of (zroom_le hrm (by decide))) ⟨by rw [K.2.2.2.1]; exact hcs.1, by rw [K.2.2.2.2]; exact hcs.2⟩ hst d rfl kk
set_option maxRecDepth 100000 in
theorem mtc_X9_closed (l : Launch) (D : va_G) (ds : Nat → ClassId) (ad : Nat → Nat) (a0 : Int) (a1 : Int) (σ : ZS) (post : Int → ZS → Prop) (h : wc_X9_closed a0 a1 σ post) : ZMetI l (ΘC D ds ad) yX9_closed cX9_closed 3 .int 3 46 0 0 [.ref (ad 59), .int (iz a0), .int (iz a1)] σ post := by
  refine ZMetI.of (by decide) (Nat.le_of_ble_eq_true rfl) (fun Γ X K hR => ?_)
  have X : ZX Γ cX9_closed RX9 3 46 := X
  refine z_sub [0, 1, 2] (lv' := [(0, .ref (ad 59)), (1, .int (iz a0)), (2, .int (iz a1))]) rfl ?_
  refine z_aload_n X 0 dX9_closed_0 rfl ?_
  refine z_iload_n X 1 dX9_closed_1 rfl ?_
  refine z_iload_n X 2 dX9_closed_2 rfl ?_
  refine clc_X9_28 X K rfl h (Nat.le_of_ble_eq_true rfl) dX9_closed_3 ⟨Nat.zero_le _, Nat.zero_le _⟩ (fun r2 σ1 h => ?_)
  refine z_iconst X 1 dX9_closed_6 ?_
  refine z_iadd X dX9_closed_7 ?_
  exact hR _ _ _ _ _ _ _ dX9_closed_8 rfl (Nat.le_refl 0) (Nat.le_refl 0) h
/- X8_begin -/
set_option maxRecDepth 100000 in
theorem mtc_X8_begin (l : Launch) (D : va_G) (ds : Nat → ClassId) (ad : Nat → Nat) (o : Nat) (σ : ZS) (post : ZS → Prop) (h : wc_X8_begin o σ post) : ZMetV l (ΘC D ds ad) yX8_begin cX8_begin 1 2 24 0 0 [.ref (ad o)] σ post := by
  refine ZMetV.of (by decide) (Nat.le_of_ble_eq_true rfl) (fun Γ X K hR => ?_)
  have X : ZX Γ cX8_begin RX8 2 24 := X
  refine z_sub [0] (lv' := [(0, .ref (ad o))]) rfl ?_
  obtain ⟨ho, h⟩ := h
  refine z_aload_n X 0 dX8_begin_0 rfl ?_
  refine z_iconst X (-1) dX8_begin_1 ?_
  refine pC_X8_19_X8 X K ho dX8_begin_2 (fun σ1 eσ1 => ?_)
  have h := h σ1 eσ1
  refine z_aload_n X 0 dX8_begin_5 rfl ?_
  refine z_iconst X 0 dX8_begin_6 ?_
  refine pC_X8_23_X8 X K ho dX8_begin_7 (fun σ2 eσ2 => ?_)
  have h := h σ2 eσ2
  exact hR _ _ _ _ _ _ dX8_begin_10 (Nat.le_refl 0) (Nat.le_refl 0) h
/- X8_shift -/
theorem clc_X8_44_X8 {Γ : ZG} {cc : ByteArray} {fr lo nL mc0 ms0 k n pc : Nat} {xs : va_W} {lv : List (Nat × Value)} {st : List Value} {l : Launch} {D : va_G} {ds : Nat → ClassId} {ad : Nat → Nat} {a0 : Int} {σ : ZS} {post : ZS → Prop} (X : ZX Γ cc RX8 fr lo) (K : ZCap Γ l (ΘC D ds ad) nL mc0 ms0) {o : Nat} (ho : isSe o) (hrm : zroom 3 45 fr lo = true) (h : wc_X7_add o a0 σ post) (hst : (st.map fun v => v.category).sum ≤ 8) (d : decode cc pc = .ok (.invokevirtual 44, 3)) (hcs : k ≤ mc0 ∧ n ≤ ms0) (kk : ∀ (σ' : ZS), post σ' → Z Γ k n σ' xs (pc + 3) lv (st)) : Z Γ k n σ xs pc lv (.int (iz a0) :: .ref (ad o) :: st) := by
  rcases ho with rfl | rfl
  · exact z_callUV' (C := RX8) (owner := "MatrixPress$Threes") (q0 := 53) X K (mtc_X7_add l D ds ad 53 a0 σ post h) (Nat.le_of_ble_eq_true rfl) rfl rfl rfl (lw_U q810 q811 q813 q814 q117 q815) (va_Decl.abs (X.nw q812 rfl)) ⟨by decide, by decide, rfl⟩ (zroom_of (zroom_le hrm (by decide))) ⟨by rw [K.2.2.2.1]; exact hcs.1, by rw [K.2.2.2.2]; exact hcs.2⟩ hst d rfl kk
  · exact z_callUV' (C := RX8) (owner := "MatrixPress$Threes") (q0 := 56) X K (mtc_X7_add l D ds ad 56 a0 σ post h) (Nat.le_of_ble_eq_true rfl) rfl rfl rfl (lw_U q810 q811 q813 q814 q117 q815) (va_Decl.abs (X.nw q812 rfl)) ⟨by decide, by decide, rfl⟩ (zroom_of (zroom_le hrm (by decide))) ⟨by rw [K.2.2.2.1]; exact hcs.1, by rw [K.2.2.2.2]; exact hcs.2⟩ hst d rfl kk
set_option maxRecDepth 100000 in
theorem wkc_X8_shift_140 {Γ : ZG} {l : Launch} {D : va_G} {ds : Nat → ClassId} {ad : Nat → Nat} {post : ZS → Prop} {o : Nat} (X : ZX Γ cX8_shift RX8 3 45) (K : ZCap Γ l (ΘC D ds ad) 3 0 0) (hR : ZRetV Γ cX8_shift 0 0 post) (ho : isSe o) (t0 : Int) (σ : ZS) (h : wc_X8_shift_140 o post t0 σ) : Z Γ 0 0 σ [] 140 [] [.int (iz t0), .ref (ad o)] := by
  refine clc_X8_44_X8 X K ho rfl h (Nat.le_of_ble_eq_true rfl) dX8_shift_140 ⟨Nat.zero_le _, Nat.zero_le _⟩ (fun σ1 h => ?_)
  exact hR _ _ _ _ _ _ dX8_shift_143 (Nat.le_refl 0) (Nat.le_refl 0) h
set_option maxRecDepth 100000 in
theorem wkc_X8_shift_119 {Γ : ZG} {l : Launch} {D : va_G} {ds : Nat → ClassId} {ad : Nat → Nat} {post : ZS → Prop} {o : Nat} (X : ZX Γ cX8_shift RX8 3 45) (K : ZCap Γ l (ΘC D ds ad) 3 0 0) (hR : ZRetV Γ cX8_shift 0 0 post) (ho : isSe o) (v1 : Int) (σ : ZS) (h : wc_X8_shift_119 o post v1 σ) : Z Γ 0 0 σ [] 119 [(1, .int (iz v1))] [.ref (ad o)] := by
  refine z_iload_n X 0 dX8_shift_119 rfl ?_
  refine z_bipush X 96 dX8_shift_120 rfl ?_
  refine z_isub X dX8_shift_122 ?_
  refine z_goto (tgt := 140) X dX8_shift_123 rfl ?_
  exact z_sub [] rfl (wkc_X8_shift_140 X K hR ho _ _ h)
set_option maxRecDepth 100000 in
theorem wkc_X8_shift_99 {Γ : ZG} {l : Launch} {D : va_G} {ds : Nat → ClassId} {ad : Nat → Nat} {post : ZS → Prop} {o : Nat} (X : ZX Γ cX8_shift RX8 3 45) (K : ZCap Γ l (ΘC D ds ad) 3 0 0) (hR : ZRetV Γ cX8_shift 0 0 post) (ho : isSe o) (t0 : Int) (σ : ZS) (h : wc_X8_shift_99 o post t0 σ) : Z Γ 0 0 σ [] 99 [] [.int (iz t0), .ref (ad o)] := by
  refine clc_X8_44_X8 X K ho rfl h (Nat.le_of_ble_eq_true rfl) dX8_shift_99 ⟨Nat.zero_le _, Nat.zero_le _⟩ (fun σ1 h => ?_)
  refine z_goto (tgt := 143) X dX8_shift_102 rfl ?_
  exact hR _ _ _ _ _ _ dX8_shift_143 (Nat.le_refl 0) (Nat.le_refl 0) h
set_option maxRecDepth 100000 in
theorem wkc_X8_shift_45 {Γ : ZG} {l : Launch} {D : va_G} {ds : Nat → ClassId} {ad : Nat → Nat} {post : ZS → Prop} {o : Nat} (X : ZX Γ cX8_shift RX8 3 45) (K : ZCap Γ l (ΘC D ds ad) 3 0 0) (hR : ZRetV Γ cX8_shift 0 0 post) (ho : isSe o) (v1 : Int) (t0 : Int) (σ : ZS) (h : wc_X8_shift_45 o post v1 t0 σ) : Z Γ 0 0 σ [] 45 [(0, .ref (ad o)), (1, .int (iz v1))] [.int (iz t0)] := by
  refine z_istore_nK X K (lv' := [(2, .int (iz t0)), (0, .ref (ad o)), (1, .int (iz v1))]) dX8_shift_45 rfl rfl ?_
  refine z_aload_n X 1 dX8_shift_46 rfl ?_
  refine z_iload_n X 0 dX8_shift_47 rfl ?_
  refine clc_X8_44_X8 X K ho rfl h (Nat.le_of_ble_eq_true rfl) dX8_shift_48 ⟨Nat.zero_le _, Nat.zero_le _⟩ (fun σ1 h => ?_)
  refine z_iload_n X 0 dX8_shift_51 rfl ?_
  obtain ⟨i2, h⟩ := h
  refine z_if_ne X 63 dX8_shift_52 rfl i2 (fun c3 => ?_) (fun c3 => ?_)
  · have h := h.1 c3
    refine z_iload_n X 0 dX8_shift_63 rfl ?_
    refine z_iconst X 1 dX8_shift_64 ?_
    refine z_icmp_ne X 105 dX8_shift_65 rfl i2 (by decide) (fun c4 => ?_) (fun c4 => ?_)
    · have h := h.1 c4
      refine z_aload_n X 1 dX8_shift_105 rfl ?_
      refine z_aload_n X 1 dX8_shift_106 rfl ?_
      refine gC_X8_15_X8 X K ho dX8_shift_107 ?_
      obtain ⟨i5, h⟩ := h
      refine z_if_eq X 119 dX8_shift_110 rfl i5 (fun c6 => ?_) (fun c6 => ?_)
      · have h := h.1 c6
        exact z_sub [2] rfl (wkc_X8_shift_119 X K hR ho _ _ h)
      · have h := h.2 c6
        refine z_iload_n X 2 dX8_shift_113 rfl ?_
        refine z_bipush X 123 dX8_shift_114 rfl ?_
        obtain ⟨i7, h⟩ := h
        refine z_icmp_lt X 126 dX8_shift_116 rfl i7 (by decide) (fun c8 => ?_) (fun c8 => ?_)
        · have h := h.1 c8
          refine z_iload_n X 2 dX8_shift_126 rfl ?_
          refine z_bipush X 96 dX8_shift_127 rfl ?_
          refine z_icmp_ne X 136 dX8_shift_129 rfl i7 (by decide) (fun c9 => ?_) (fun c9 => ?_)
          · have h := h.1 c9
            refine z_iload_n X 2 dX8_shift_136 rfl ?_
            refine z_bipush X 64 dX8_shift_137 rfl ?_
            refine z_isub X dX8_shift_139 ?_
            exact z_sub [] rfl (wkc_X8_shift_140 X K hR ho _ _ h)
          · have h := h.2 c9
            refine z_iconst X 0 dX8_shift_132 ?_
            refine z_goto (tgt := 140) X dX8_shift_133 rfl ?_
            exact z_sub [] rfl (wkc_X8_shift_140 X K hR ho _ _ h)
        · have h := h.2 c8
          exact z_sub [2] rfl (wkc_X8_shift_119 X K hR ho _ _ h)
    · have h := h.2 c4
      refine z_aload_n X 1 dX8_shift_68 rfl ?_
      refine z_iload_n X 2 dX8_shift_69 rfl ?_
      refine z_bipush X 48 dX8_shift_70 rfl ?_
      obtain ⟨i10, h⟩ := h
      refine z_icmp_ge X 82 dX8_shift_72 rfl i10 (by decide) (fun c11 => ?_) (fun c11 => ?_)
      · have h := h.1 c11
        refine z_iload_n X 2 dX8_shift_82 rfl ?_
        refine z_bipush X 65 dX8_shift_83 rfl ?_
        refine z_icmp_ge X 95 dX8_shift_85 rfl i10 (by decide) (fun c12 => ?_) (fun c12 => ?_)
        · have h := h.1 c12
          refine z_iload_n X 2 dX8_shift_95 rfl ?_
          refine z_bipush X 69 dX8_shift_96 rfl ?_
          refine z_isub X dX8_shift_98 ?_
          exact z_sub [] rfl (wkc_X8_shift_99 X K hR ho _ _ h)
        · have h := h.2 c12
          refine z_iload_n X 2 dX8_shift_88 rfl ?_
          refine z_bipush X 43 dX8_shift_89 rfl ?_
          refine z_isub X dX8_shift_91 ?_
          refine z_goto (tgt := 99) X dX8_shift_92 rfl ?_
          exact z_sub [] rfl (wkc_X8_shift_99 X K hR ho _ _ h)
      · have h := h.2 c11
        refine z_iload_n X 2 dX8_shift_75 rfl ?_
        refine z_bipush X 33 dX8_shift_76 rfl ?_
        refine z_isub X dX8_shift_78 ?_
        refine z_goto (tgt := 99) X dX8_shift_79 rfl ?_
        exact z_sub [] rfl (wkc_X8_shift_99 X K hR ho _ _ h)
  · have h := h.2 c3
    refine z_aload_n X 1 dX8_shift_55 rfl ?_
    refine z_iload_n X 2 dX8_shift_56 rfl ?_
    refine clc_X8_44_X8 X K ho rfl h (Nat.le_of_ble_eq_true rfl) dX8_shift_57 ⟨Nat.zero_le _, Nat.zero_le _⟩ (fun σ13 h => ?_)
    refine z_goto (tgt := 143) X dX8_shift_60 rfl ?_
    exact hR _ _ _ _ _ _ dX8_shift_143 (Nat.le_refl 0) (Nat.le_refl 0) h
set_option maxRecDepth 100000 in
theorem wkc_X8_shift_44 {Γ : ZG} {l : Launch} {D : va_G} {ds : Nat → ClassId} {ad : Nat → Nat} {post : ZS → Prop} {o : Nat} (X : ZX Γ cX8_shift RX8 3 45) (K : ZCap Γ l (ΘC D ds ad) 3 0 0) (hR : ZRetV Γ cX8_shift 0 0 post) (ho : isSe o) (v1 : Int) (σ : ZS) (h : wc_X8_shift_44 o post v1 σ) : Z Γ 0 0 σ [] 44 [(0, .ref (ad o)), (1, .int (iz v1))] [] := by
  refine z_iconst X 2 dX8_shift_44 ?_
  exact z_sub [0, 1] rfl (wkc_X8_shift_45 X K hR ho _ _ _ h)
set_option maxRecDepth 100000 in
theorem wkc_X8_shift_28 {Γ : ZG} {l : Launch} {D : va_G} {ds : Nat → ClassId} {ad : Nat → Nat} {post : ZS → Prop} {o : Nat} (X : ZX Γ cX8_shift RX8 3 45) (K : ZCap Γ l (ΘC D ds ad) 3 0 0) (hR : ZRetV Γ cX8_shift 0 0 post) (ho : isSe o) (v1 : Int) (σ : ZS) (h : wc_X8_shift_28 o post v1 σ) : Z Γ 0 0 σ [] 28 [(0, .ref (ad o)), (1, .int (iz v1))] [] := by
  refine z_iload_n X 1 dX8_shift_28 rfl ?_
  refine z_bipush X 91 dX8_shift_29 rfl ?_
  obtain ⟨i1, h⟩ := h
  refine z_icmp_lt X 44 dX8_shift_31 rfl i1 (by decide) (fun c2 => ?_) (fun c2 => ?_)
  · have h := h.1 c2
    exact z_sub [0, 1] rfl (wkc_X8_shift_44 X K hR ho _ _ h)
  · have h := h.2 c2
    refine z_iload_n X 1 dX8_shift_34 rfl ?_
    refine z_bipush X 95 dX8_shift_35 rfl ?_
    refine z_icmp_gt X 44 dX8_shift_37 rfl i1 (by decide) (fun c3 => ?_) (fun c3 => ?_)
    · have h := h.1 c3
      exact z_sub [0, 1] rfl (wkc_X8_shift_44 X K hR ho _ _ h)
    · have h := h.2 c3
      refine z_iconst X 1 dX8_shift_40 ?_
      refine z_goto (tgt := 45) X dX8_shift_41 rfl ?_
      exact z_sub [0, 1] rfl (wkc_X8_shift_45 X K hR ho _ _ _ h)
set_option maxRecDepth 100000 in
theorem mtc_X8_shift (l : Launch) (D : va_G) (ds : Nat → ClassId) (ad : Nat → Nat) (o : Nat) (a0 : Int) (σ : ZS) (post : ZS → Prop) (h : wc_X8_shift o a0 σ post) : ZMetV l (ΘC D ds ad) yX8_shift cX8_shift 3 3 45 0 0 [.ref (ad o), .int (iz a0)] σ post := by
  refine ZMetV.of (by decide) (Nat.le_of_ble_eq_true rfl) (fun Γ X K hR => ?_)
  have X : ZX Γ cX8_shift RX8 3 45 := X
  refine z_sub [0, 1] (lv' := [(0, .ref (ad o)), (1, .int (iz a0))]) rfl ?_
  obtain ⟨ho, h⟩ := h
  refine z_iload_n X 1 dX8_shift_0 rfl ?_
  refine z_bipush X 32 dX8_shift_1 rfl ?_
  obtain ⟨i1, h⟩ := h
  refine z_icmp_ge X 10 dX8_shift_3 rfl i1 (by decide) (fun c2 => ?_) (fun c2 => ?_)
  · have h := h.1 c2
    refine z_iload_n X 1 dX8_shift_10 rfl ?_
    refine z_bipush X 48 dX8_shift_11 rfl ?_
    refine z_icmp_lt X 40 dX8_shift_13 rfl i1 (by decide) (fun c3 => ?_) (fun c3 => ?_)
    · have h := h.1 c3
      refine z_iconst X 1 dX8_shift_40 ?_
      refine z_goto (tgt := 45) X dX8_shift_41 rfl ?_
      exact z_sub [0, 1] rfl (wkc_X8_shift_45 X K hR ho _ _ _ h)
    · have h := h.2 c3
      refine z_iload_n X 1 dX8_shift_16 rfl ?_
      refine z_bipush X 58 dX8_shift_17 rfl ?_
      refine z_icmp_lt X 28 dX8_shift_19 rfl i1 (by decide) (fun c4 => ?_) (fun c4 => ?_)
      · have h := h.1 c4
        exact z_sub [0, 1] rfl (wkc_X8_shift_28 X K hR ho _ _ h)
      · have h := h.2 c4
        refine z_iload_n X 1 dX8_shift_22 rfl ?_
        refine z_bipush X 64 dX8_shift_23 rfl ?_
        refine z_icmp_le X 40 dX8_shift_25 rfl i1 (by decide) (fun c5 => ?_) (fun c5 => ?_)
        · have h := h.1 c5
          refine z_iconst X 1 dX8_shift_40 ?_
          refine z_goto (tgt := 45) X dX8_shift_41 rfl ?_
          exact z_sub [0, 1] rfl (wkc_X8_shift_45 X K hR ho _ _ _ h)
        · have h := h.2 c5
          exact z_sub [0, 1] rfl (wkc_X8_shift_28 X K hR ho _ _ h)
  · have h := h.2 c2
    refine z_iconst X 0 dX8_shift_6 ?_
    refine z_goto (tgt := 45) X dX8_shift_7 rfl ?_
    exact z_sub [0, 1] rfl (wkc_X8_shift_45 X K hR ho _ _ _ h)
/- X8_values -/
theorem clc_X8_47_X8 {Γ : ZG} {cc : ByteArray} {fr lo nL mc0 ms0 k n pc : Nat} {xs : va_W} {lv : List (Nat × Value)} {st : List Value} {l : Launch} {D : va_G} {ds : Nat → ClassId} {ad : Nat → Nat} {a0 : Int} {σ : ZS} {post : ZS → Prop} (X : ZX Γ cc RX8 fr lo) (K : ZCap Γ l (ΘC D ds ad) nL mc0 ms0) {o : Nat} (ho : isSe o) (hrm : zroom 4 67 fr lo = true) (h : wc_X8_shift o a0 σ post) (hst : (st.map fun v => v.category).sum ≤ 8) (d : decode cc pc = .ok (.invokevirtual 47, 3)) (hcs : k ≤ mc0 ∧ n ≤ ms0) (kk : ∀ (σ' : ZS), post σ' → Z Γ k n σ' xs (pc + 3) lv (st)) : Z Γ k n σ xs pc lv (.int (iz a0) :: .ref (ad o) :: st) := by
  rcases ho with rfl | rfl
  · exact z_callVV' (C := RX8) (q0 := 53) X K (mtc_X8_shift l D ds ad 53 a0 σ post h) (Nat.le_of_ble_eq_true rfl) rfl rfl rfl (lw_V q816 q818 qs17 q118 q819) ⟨rfl, by decide, by decide, rfl⟩ (zroom_of (zroom_le hrm (by decide))) ⟨by rw [K.2.2.2.1]; exact hcs.1, by rw [K.2.2.2.2]; exact hcs.2⟩ hst d rfl kk
  · exact z_callVV' (C := RX8) (q0 := 56) X K (mtc_X8_shift l D ds ad 56 a0 σ post h) (Nat.le_of_ble_eq_true rfl) rfl rfl rfl (lw_V q816 q818 qs17 q118 q819) ⟨rfl, by decide, by decide, rfl⟩ (zroom_of (zroom_le hrm (by decide))) ⟨by rw [K.2.2.2.1]; exact hcs.1, by rw [K.2.2.2.2]; exact hcs.2⟩ hst d rfl kk
set_option maxRecDepth 100000 in
theorem wkc_X8_values_125 {Γ : ZG} {l : Launch} {D : va_G} {ds : Nat → ClassId} {ad : Nat → Nat} {post : ZS → Prop} {o : Nat} (X : ZX Γ cX8_values RX8 4 67) (K : ZCap Γ l (ΘC D ds ad) 4 0 0) (hR : ZRetV Γ cX8_values 0 0 post) (ho : isSe o) (t0 : Int) (t1 : Int) (σ : ZS) (h : wc_X8_values_125 o post t0 t1 σ) : Z Γ 0 0 σ [] 125 [] [.int (iz t0), .int (iz t1), .ref (ad o)] := by
  refine z_isub X dX8_values_125 ?_
  refine clc_X8_44_X8 X K ho rfl h (Nat.le_of_ble_eq_true rfl) dX8_values_126 ⟨Nat.zero_le _, Nat.zero_le _⟩ (fun σ1 h => ?_)
  refine z_goto (tgt := 137) X dX8_values_129 rfl ?_
  exact hR _ _ _ _ _ _ dX8_values_137 (Nat.le_refl 0) (Nat.le_refl 0) h
set_option maxRecDepth 100000 in
theorem wkc_X8_values_105 {Γ : ZG} {l : Launch} {D : va_G} {ds : Nat → ClassId} {ad : Nat → Nat} {post : ZS → Prop} {o : Nat} (X : ZX Γ cX8_values RX8 4 67) (K : ZCap Γ l (ΘC D ds ad) 4 0 0) (hR : ZRetV Γ cX8_values 0 0 post) (ho : isSe o) (v2 : Int) (v3 : Int) (σ : ZS) (h : wc_X8_values_105 o post v2 v3 σ) : Z Γ 0 0 σ [] 105 [(0, .ref (ad o)), (2, .int (iz v2)), (3, .int (iz v3))] [] := by
  refine z_iload_n X 2 dX8_values_105 rfl ?_
  obtain ⟨i1, h⟩ := h
  refine z_if_eq X 132 dX8_values_106 rfl i1 (fun c2 => ?_) (fun c2 => ?_)
  · have h := h.1 c2
    refine z_aload_n X 0 dX8_values_132 rfl ?_
    refine z_iload_n X 1 dX8_values_133 rfl ?_
    refine clc_X8_47_X8 X K ho rfl h (Nat.le_of_ble_eq_true rfl) dX8_values_134 ⟨Nat.zero_le _, Nat.zero_le _⟩ (fun σ3 h => ?_)
    exact hR _ _ _ _ _ _ dX8_values_137 (Nat.le_refl 0) (Nat.le_refl 0) h
  · have h := h.2 c2
    refine z_aload_n X 0 dX8_values_109 rfl ?_
    refine z_iload_n X 1 dX8_values_110 rfl ?_
    refine z_aload_n X 0 dX8_values_111 rfl ?_
    refine gC_X8_15_X8 X K ho dX8_values_112 ?_
    obtain ⟨i4, h⟩ := h
    refine z_if_eq X 123 dX8_values_115 rfl i4 (fun c5 => ?_) (fun c5 => ?_)
    · have h := h.1 c5
      refine z_bipush X 51 dX8_values_123 rfl ?_
      exact z_sub [] rfl (wkc_X8_values_125 X K hR ho _ _ _ h)
    · have h := h.2 c5
      refine z_bipush X 83 dX8_values_118 rfl ?_
      refine z_goto (tgt := 125) X dX8_values_120 rfl ?_
      exact z_sub [] rfl (wkc_X8_values_125 X K hR ho _ _ _ h)
set_option maxRecDepth 100000 in
theorem wkc_X8_values_67 {Γ : ZG} {l : Launch} {D : va_G} {ds : Nat → ClassId} {ad : Nat → Nat} {post : ZS → Prop} {o : Nat} (X : ZX Γ cX8_values RX8 4 67) (K : ZCap Γ l (ΘC D ds ad) 4 0 0) (hR : ZRetV Γ cX8_values 0 0 post) (ho : isSe o) (v2 : Int) (t0 : Int) (σ : ZS) (h : wc_X8_values_67 o post v2 t0 σ) : Z Γ 0 0 σ [] 67 [(0, .ref (ad o)), (2, .int (iz v2))] [.int (iz t0)] := by
  refine z_istore_nK X K (lv' := [(3, .int (iz t0)), (0, .ref (ad o)), (2, .int (iz v2))]) dX8_values_67 rfl rfl ?_
  refine z_iload_n X 2 dX8_values_68 rfl ?_
  refine z_bipush X 32 dX8_values_69 rfl ?_
  obtain ⟨i1, h⟩ := h
  refine z_icmp_ne X 82 dX8_values_71 rfl i1 (by decide) (fun c2 => ?_) (fun c2 => ?_)
  · have h := h.1 c2
    refine z_iload_n X 2 dX8_values_82 rfl ?_
    refine z_bipush X 48 dX8_values_83 rfl ?_
    refine z_icmp_lt X 105 dX8_values_85 rfl i1 (by decide) (fun c3 => ?_) (fun c3 => ?_)
    · have h := h.1 c3
      exact z_sub [1, 2, 0] rfl (wkc_X8_values_105 X K hR ho _ _ _ h)
    · have h := h.2 c3
      refine z_iload_n X 2 dX8_values_88 rfl ?_
      refine z_bipush X 57 dX8_values_89 rfl ?_
      refine z_icmp_gt X 105 dX8_values_91 rfl i1 (by decide) (fun c4 => ?_) (fun c4 => ?_)
      · have h := h.1 c4
        exact z_sub [1, 2, 0] rfl (wkc_X8_values_105 X K hR ho _ _ _ h)
      · have h := h.2 c4
        refine z_aload_n X 1 dX8_values_94 rfl ?_
        refine z_iload_n X 2 dX8_values_95 rfl ?_
        refine z_bipush X 44 dX8_values_96 rfl ?_
        refine z_isub X dX8_values_98 ?_
        refine clc_X8_44_X8 X K ho rfl h (Nat.le_of_ble_eq_true rfl) dX8_values_99 ⟨Nat.zero_le _, Nat.zero_le _⟩ (fun σ5 h => ?_)
        refine z_goto (tgt := 137) X dX8_values_102 rfl ?_
        exact hR _ _ _ _ _ _ dX8_values_137 (Nat.le_refl 0) (Nat.le_refl 0) h
  · have h := h.2 c2
    refine z_aload_n X 1 dX8_values_74 rfl ?_
    refine z_iconst X 3 dX8_values_75 ?_
    refine clc_X8_44_X8 X K ho rfl h (Nat.le_of_ble_eq_true rfl) dX8_values_76 ⟨Nat.zero_le _, Nat.zero_le _⟩ (fun σ6 h => ?_)
    refine z_goto (tgt := 137) X dX8_values_79 rfl ?_
    exact hR _ _ _ _ _ _ dX8_values_137 (Nat.le_refl 0) (Nat.le_refl 0) h
set_option maxRecDepth 100000 in
theorem wkc_X8_values_66 {Γ : ZG} {l : Launch} {D : va_G} {ds : Nat → ClassId} {ad : Nat → Nat} {post : ZS → Prop} {o : Nat} (X : ZX Γ cX8_values RX8 4 67) (K : ZCap Γ l (ΘC D ds ad) 4 0 0) (hR : ZRetV Γ cX8_values 0 0 post) (ho : isSe o) (v2 : Int) (σ : ZS) (h : wc_X8_values_66 o post v2 σ) : Z Γ 0 0 σ [] 66 [(0, .ref (ad o)), (2, .int (iz v2))] [] := by
  refine z_iconst X 0 dX8_values_66 ?_
  exact z_sub [0, 1] rfl (wkc_X8_values_67 X K hR ho _ _ _ h)
set_option maxRecDepth 100000 in
theorem wkc_X8_values_18 {Γ : ZG} {l : Launch} {D : va_G} {ds : Nat → ClassId} {ad : Nat → Nat} {post : ZS → Prop} {o : Nat} (X : ZX Γ cX8_values RX8 4 67) (K : ZCap Γ l (ΘC D ds ad) 4 0 0) (hR : ZRetV Γ cX8_values 0 0 post) (ho : isSe o) (v1 : Int) (σ : ZS) (h : wc_X8_values_18 o post v1 σ) : Z Γ 0 0 σ [] 18 [(0, .ref (ad o)), (1, .int (iz v1))] [] := by
  refine z_iload_n X 1 dX8_values_18 rfl ?_
  refine z_bipush X 127 dX8_values_19 rfl ?_
  refine z_iandm X 7 (M := 128) rfl rfl rfl dX8_values_21 ?_
  refine z_topi (fun v2_1 ev2_1 => ?_)
  have h := h v2_1 ev2_1
  refine z_istore_nK X K (lv' := [(2, .int (iz v2_1)), (0, .ref (ad o)), (1, .int (iz v1))]) dX8_values_22 rfl rfl ?_
  refine z_aload_n X 1 dX8_values_23 rfl ?_
  refine gC_X8_15_X8 X K ho dX8_values_24 ?_
  obtain ⟨i2, h⟩ := h
  refine z_if_eq X 50 dX8_values_27 rfl i2 (fun c3 => ?_) (fun c3 => ?_)
  · have h := h.1 c3
    refine z_iload_n X 0 dX8_values_50 rfl ?_
    refine z_bipush X 65 dX8_values_51 rfl ?_
    obtain ⟨i4, h⟩ := h
    refine z_icmp_lt X 66 dX8_values_53 rfl i4 (by decide) (fun c5 => ?_) (fun c5 => ?_)
    · have h := h.1 c5
      exact z_sub [1, 0] rfl (wkc_X8_values_66 X K hR ho _ _ h)
    · have h := h.2 c5
      refine z_iload_n X 0 dX8_values_56 rfl ?_
      refine z_bipush X 90 dX8_values_57 rfl ?_
      refine z_icmp_gt X 66 dX8_values_59 rfl i4 (by decide) (fun c6 => ?_) (fun c6 => ?_)
      · have h := h.1 c6
        exact z_sub [1, 0] rfl (wkc_X8_values_66 X K hR ho _ _ h)
      · have h := h.2 c6
        refine z_iconst X 1 dX8_values_62 ?_
        refine z_goto (tgt := 67) X dX8_values_63 rfl ?_
        exact z_sub [1, 0] rfl (wkc_X8_values_67 X K hR ho _ _ _ h)
  · have h := h.2 c3
    refine z_iload_n X 0 dX8_values_30 rfl ?_
    refine z_bipush X 97 dX8_values_31 rfl ?_
    obtain ⟨i7, h⟩ := h
    refine z_icmp_lt X 46 dX8_values_33 rfl i7 (by decide) (fun c8 => ?_) (fun c8 => ?_)
    · have h := h.1 c8
      refine z_iconst X 0 dX8_values_46 ?_
      refine z_goto (tgt := 67) X dX8_values_47 rfl ?_
      exact z_sub [1, 0] rfl (wkc_X8_values_67 X K hR ho _ _ _ h)
    · have h := h.2 c8
      refine z_iload_n X 0 dX8_values_36 rfl ?_
      refine z_bipush X 122 dX8_values_37 rfl ?_
      refine z_icmp_gt X 46 dX8_values_39 rfl i7 (by decide) (fun c9 => ?_) (fun c9 => ?_)
      · have h := h.1 c9
        refine z_iconst X 0 dX8_values_46 ?_
        refine z_goto (tgt := 67) X dX8_values_47 rfl ?_
        exact z_sub [1, 0] rfl (wkc_X8_values_67 X K hR ho _ _ _ h)
      · have h := h.2 c9
        refine z_iconst X 1 dX8_values_42 ?_
        refine z_goto (tgt := 67) X dX8_values_43 rfl ?_
        exact z_sub [1, 0] rfl (wkc_X8_values_67 X K hR ho _ _ _ h)
set_option maxRecDepth 100000 in
theorem mtc_X8_values (l : Launch) (D : va_G) (ds : Nat → ClassId) (ad : Nat → Nat) (o : Nat) (a0 : Int) (σ : ZS) (post : ZS → Prop) (h : wc_X8_values o a0 σ post) : ZMetV l (ΘC D ds ad) yX8_values cX8_values 4 4 67 0 0 [.ref (ad o), .int (iz a0)] σ post := by
  refine ZMetV.of (by decide) (Nat.le_of_ble_eq_true rfl) (fun Γ X K hR => ?_)
  have X : ZX Γ cX8_values RX8 4 67 := X
  refine z_sub [0, 1] (lv' := [(0, .ref (ad o)), (1, .int (iz a0))]) rfl ?_
  obtain ⟨ho, h⟩ := h
  refine z_iload_n X 1 dX8_values_0 rfl ?_
  refine z_sipush X 128 dX8_values_1 rfl ?_
  obtain ⟨i1, h⟩ := h
  refine z_icmp_lt X 18 dX8_values_4 rfl i1 (by decide) (fun c2 => ?_) (fun c2 => ?_)
  · have h := h.1 c2
    exact z_sub [0, 1] rfl (wkc_X8_values_18 X K hR ho _ _ h)
  · have h := h.2 c2
    refine z_aload_n X 0 dX8_values_7 rfl ?_
    refine z_iconst X 1 dX8_values_8 ?_
    refine clc_X8_44_X8 X K ho rfl h (Nat.le_of_ble_eq_true rfl) dX8_values_9 ⟨Nat.zero_le _, Nat.zero_le _⟩ (fun σ3 h => ?_)
    refine z_aload_n X 0 dX8_values_12 rfl ?_
    refine z_bipush X 30 dX8_values_13 rfl ?_
    refine clc_X8_44_X8 X K ho rfl h (Nat.le_of_ble_eq_true rfl) dX8_values_15 ⟨Nat.zero_le _, Nat.zero_le _⟩ (fun σ4 h => ?_)
    exact z_sub [0, 1] rfl (wkc_X8_values_18 X K hR ho _ _ h)
/- X8_size -/
set_option maxRecDepth 100000 in
theorem wkc_X8_size_72 {Γ : ZG} {l : Launch} {D : va_G} {ds : Nat → ClassId} {ad : Nat → Nat} {post : Int → ZS → Prop} {o : Nat} (X : ZX Γ cX8_size RX8 2 24) (K : ZCap Γ l (ΘC D ds ad) 4 0 0) (hR : ZRetI Γ cX8_size .int 0 0 post) (ho : isSe o) (v1 : Int) (t0 : Int) (σ : ZS) (h : wc_X8_size_72 o post v1 t0 σ) : Z Γ 0 0 σ [] 72 [(1, .int (iz v1))] [.int (iz t0)] := by
  refine z_iload_n X 0 dX8_size_72 rfl ?_
  refine z_sipush X 128 dX8_size_73 rfl ?_
  obtain ⟨i1, h⟩ := h
  refine z_icmp_lt X 83 dX8_size_76 rfl i1 (by decide) (fun c2 => ?_) (fun c2 => ?_)
  · have h := h.1 c2
    refine z_iconst X 0 dX8_size_83 ?_
    refine z_iadd X dX8_size_84 ?_
    exact hR _ _ _ _ _ _ _ dX8_size_85 rfl (Nat.le_refl 0) (Nat.le_refl 0) h
  · have h := h.2 c2
    refine z_iconst X 2 dX8_size_79 ?_
    refine z_goto (tgt := 84) X dX8_size_80 rfl ?_
    refine z_iadd X dX8_size_84 ?_
    exact hR _ _ _ _ _ _ _ dX8_size_85 rfl (Nat.le_refl 0) (Nat.le_refl 0) h
set_option maxRecDepth 100000 in
theorem wkc_X8_size_62 {Γ : ZG} {l : Launch} {D : va_G} {ds : Nat → ClassId} {ad : Nat → Nat} {post : Int → ZS → Prop} {o : Nat} (X : ZX Γ cX8_size RX8 2 24) (K : ZCap Γ l (ΘC D ds ad) 4 0 0) (hR : ZRetI Γ cX8_size .int 0 0 post) (ho : isSe o) (v1 : Int) (t0 : Int) (σ : ZS) (h : wc_X8_size_62 o post v1 t0 σ) : Z Γ 0 0 σ [] 62 [(1, .int (iz v1))] [.int (iz t0)] := by
  refine z_istore_nK X K (lv' := [(3, .int (iz t0)), (1, .int (iz v1))]) dX8_size_62 rfl rfl ?_
  refine z_iload_n X 0 dX8_size_63 rfl ?_
  obtain ⟨i1, h⟩ := h
  refine z_if_eq X 71 dX8_size_64 rfl i1 (fun c2 => ?_) (fun c2 => ?_)
  · have h := h.1 c2
    refine z_iconst X 2 dX8_size_71 ?_
    exact z_sub [1] rfl (wkc_X8_size_72 X K hR ho _ _ _ h)
  · have h := h.2 c2
    refine z_iconst X 1 dX8_size_67 ?_
    refine z_goto (tgt := 72) X dX8_size_68 rfl ?_
    exact z_sub [1] rfl (wkc_X8_size_72 X K hR ho _ _ _ h)
set_option maxRecDepth 100000 in
theorem wkc_X8_size_61 {Γ : ZG} {l : Launch} {D : va_G} {ds : Nat → ClassId} {ad : Nat → Nat} {post : Int → ZS → Prop} {o : Nat} (X : ZX Γ cX8_size RX8 2 24) (K : ZCap Γ l (ΘC D ds ad) 4 0 0) (hR : ZRetI Γ cX8_size .int 0 0 post) (ho : isSe o) (v1 : Int) (σ : ZS) (h : wc_X8_size_61 o post v1 σ) : Z Γ 0 0 σ [] 61 [(1, .int (iz v1))] [] := by
  refine z_iconst X 0 dX8_size_61 ?_
  exact z_sub [0] rfl (wkc_X8_size_62 X K hR ho _ _ _ h)
set_option maxRecDepth 100000 in
theorem wkc_X8_size_23 {Γ : ZG} {l : Launch} {D : va_G} {ds : Nat → ClassId} {ad : Nat → Nat} {post : Int → ZS → Prop} {o : Nat} (X : ZX Γ cX8_size RX8 2 24) (K : ZCap Γ l (ΘC D ds ad) 4 0 0) (hR : ZRetI Γ cX8_size .int 0 0 post) (ho : isSe o) (v1 : Int) (v2 : Int) (σ : ZS) (h : wc_X8_size_23 o post v1 v2 σ) : Z Γ 0 0 σ [] 23 [(0, .ref (ad o)), (1, .int (iz v1)), (2, .int (iz v2))] [] := by
  refine z_aload_n X 0 dX8_size_23 rfl ?_
  refine gC_X8_15_X8 X K ho dX8_size_24 ?_
  obtain ⟨i1, h⟩ := h
  refine z_if_eq X 45 dX8_size_27 rfl i1 (fun c2 => ?_) (fun c2 => ?_)
  · have h := h.1 c2
    refine z_iload_n X 2 dX8_size_45 rfl ?_
    refine z_bipush X 65 dX8_size_46 rfl ?_
    obtain ⟨i3, h⟩ := h
    refine z_icmp_lt X 61 dX8_size_48 rfl i3 (by decide) (fun c4 => ?_) (fun c4 => ?_)
    · have h := h.1 c4
      exact z_sub [1] rfl (wkc_X8_size_61 X K hR ho _ _ h)
    · have h := h.2 c4
      refine z_iload_n X 2 dX8_size_51 rfl ?_
      refine z_bipush X 90 dX8_size_52 rfl ?_
      refine z_icmp_gt X 61 dX8_size_54 rfl i3 (by decide) (fun c5 => ?_) (fun c5 => ?_)
      · have h := h.1 c5
        exact z_sub [1] rfl (wkc_X8_size_61 X K hR ho _ _ h)
      · have h := h.2 c5
        refine z_iconst X 1 dX8_size_57 ?_
        refine z_goto (tgt := 62) X dX8_size_58 rfl ?_
        exact z_sub [1] rfl (wkc_X8_size_62 X K hR ho _ _ _ h)
  · have h := h.2 c2
    refine z_iload_n X 2 dX8_size_30 rfl ?_
    refine z_bipush X 97 dX8_size_31 rfl ?_
    obtain ⟨i6, h⟩ := h
    refine z_icmp_lt X 61 dX8_size_33 rfl i6 (by decide) (fun c7 => ?_) (fun c7 => ?_)
    · have h := h.1 c7
      exact z_sub [1] rfl (wkc_X8_size_61 X K hR ho _ _ h)
    · have h := h.2 c7
      refine z_iload_n X 2 dX8_size_36 rfl ?_
      refine z_bipush X 122 dX8_size_37 rfl ?_
      refine z_icmp_gt X 61 dX8_size_39 rfl i6 (by decide) (fun c8 => ?_) (fun c8 => ?_)
      · have h := h.1 c8
        exact z_sub [1] rfl (wkc_X8_size_61 X K hR ho _ _ h)
      · have h := h.2 c8
        refine z_goto (tgt := 57) X dX8_size_42 rfl ?_
        refine z_iconst X 1 dX8_size_57 ?_
        refine z_goto (tgt := 62) X dX8_size_58 rfl ?_
        exact z_sub [1] rfl (wkc_X8_size_62 X K hR ho _ _ _ h)
set_option maxRecDepth 100000 in
theorem mtc_X8_size (l : Launch) (D : va_G) (ds : Nat → ClassId) (ad : Nat → Nat) (o : Nat) (a0 : Int) (σ : ZS) (post : Int → ZS → Prop) (h : wc_X8_size o a0 σ post) : ZMetI l (ΘC D ds ad) yX8_size cX8_size 4 .int 2 24 0 0 [.ref (ad o), .int (iz a0)] σ post := by
  refine ZMetI.of (by decide) (Nat.le_of_ble_eq_true rfl) (fun Γ X K hR => ?_)
  have X : ZX Γ cX8_size RX8 2 24 := X
  refine z_sub [0, 1] (lv' := [(0, .ref (ad o)), (1, .int (iz a0))]) rfl ?_
  obtain ⟨ho, h⟩ := h
  refine z_iload_n X 1 dX8_size_0 rfl ?_
  refine z_bipush X 127 dX8_size_1 rfl ?_
  refine z_iandm X 7 (M := 128) rfl rfl rfl dX8_size_3 ?_
  refine z_topi (fun v2_1 ev2_1 => ?_)
  have h := h v2_1 ev2_1
  refine z_istore_nK X K (lv' := [(2, .int (iz v2_1)), (0, .ref (ad o)), (1, .int (iz a0))]) dX8_size_4 rfl rfl ?_
  refine z_iload_n X 0 dX8_size_5 rfl ?_
  refine z_bipush X 32 dX8_size_6 rfl ?_
  obtain ⟨i2, h⟩ := h
  refine z_icmp_eq X 57 dX8_size_8 rfl i2 (by decide) (fun c3 => ?_) (fun c3 => ?_)
  · have h := h.1 c3
    refine z_iconst X 1 dX8_size_57 ?_
    refine z_goto (tgt := 62) X dX8_size_58 rfl ?_
    exact z_sub [2] rfl (wkc_X8_size_62 X K hR ho _ _ _ h)
  · have h := h.2 c3
    refine z_iload_n X 0 dX8_size_11 rfl ?_
    refine z_bipush X 48 dX8_size_12 rfl ?_
    refine z_icmp_lt X 23 dX8_size_14 rfl i2 (by decide) (fun c4 => ?_) (fun c4 => ?_)
    · have h := h.1 c4
      exact z_sub [1, 2, 0] rfl (wkc_X8_size_23 X K hR ho _ _ _ h)
    · have h := h.2 c4
      refine z_iload_n X 0 dX8_size_17 rfl ?_
      refine z_bipush X 57 dX8_size_18 rfl ?_
      refine z_icmp_le X 57 dX8_size_20 rfl i2 (by decide) (fun c5 => ?_) (fun c5 => ?_)
      · have h := h.1 c5
        refine z_iconst X 1 dX8_size_57 ?_
        refine z_goto (tgt := 62) X dX8_size_58 rfl ?_
        exact z_sub [2] rfl (wkc_X8_size_62 X K hR ho _ _ _ h)
      · have h := h.2 c5
        exact z_sub [1, 2, 0] rfl (wkc_X8_size_23 X K hR ho _ _ _ h)
/- X8_prepare -/
theorem clc_X8_49_X8 {Γ : ZG} {cc : ByteArray} {fr lo nL mc0 ms0 k n pc : Nat} {xs : va_W} {lv : List (Nat × Value)} {st : List Value} {l : Launch} {D : va_G} {ds : Nat → ClassId} {ad : Nat → Nat} {a0 : Int} {σ : ZS} {post : Int → ZS → Prop} (X : ZX Γ cc RX8 fr lo) (K : ZCap Γ l (ΘC D ds ad) nL mc0 ms0) {o : Nat} (ho : isSe o) (hrm : zroom 3 47 fr lo = true) (h : wc_X8_size o a0 σ post) (hst : (st.map fun v => v.category).sum ≤ 8) (d : decode cc pc = .ok (.invokevirtual 49, 3)) (hcs : k ≤ mc0 ∧ n ≤ ms0) (kk : ∀ (r : Int) (σ' : ZS), post r σ' → Z Γ k n σ' xs (pc + 3) lv (.int (iz r) :: st)) : Z Γ k n σ xs pc lv (.int (iz a0) :: .ref (ad o) :: st) := by
  rcases ho with rfl | rfl
  · exact z_callVI' (C := RX8) (q0 := 53) X K (mtc_X8_size l D ds ad 53 a0 σ post h) (Nat.le_of_ble_eq_true rfl) rfl rfl rfl (lw_V q622 q624 qs4 q118 q625) ⟨rfl, by decide, by decide, rfl⟩ (zroom_of (zroom_le hrm (by decide))) ⟨by rw [K.2.2.2.1]; exact hcs.1, by rw [K.2.2.2.2]; exact hcs.2⟩ hst d rfl kk
  · exact z_callVI' (C := RX8) (q0 := 56) X K (mtc_X8_size l D ds ad 56 a0 σ post h) (Nat.le_of_ble_eq_true rfl) rfl rfl rfl (lw_V q622 q624 qs4 q118 q625) ⟨rfl, by decide, by decide, rfl⟩ (zroom_of (zroom_le hrm (by decide))) ⟨by rw [K.2.2.2.1]; exact hcs.1, by rw [K.2.2.2.2]; exact hcs.2⟩ hst d rfl kk
set_option maxRecDepth 100000 in
theorem wkc_X8_prepare_9 {Γ : ZG} {l : Launch} {D : va_G} {ds : Nat → ClassId} {ad : Nat → Nat} {post : ZS → Prop} {o : Nat} (X : ZX Γ cX8_prepare RX8 3 47) (K : ZCap Γ l (ΘC D ds ad) 4 0 0) (hR : ZRetV Γ cX8_prepare 0 0 post) (ho : isSe o) : ∀ (N : Nat) (v2 : Int) (v3 : Int) (σ : ZS), zfix (wbc_X8_prepare_9 o post) N (v2, v3, σ) → Z Γ 0 0 σ [] 9 [(0, .ref (ad o)), (1, .ref (ad 66)), (2, .int (iz v2)), (3, .int (iz v3))] [] := by
  intro N
  induction N with
  | zero => intro v2 v3 σ h; exact False.elim h
  | succ N ih =>
    intro v2 v3 σ h
    have h : wbc_X8_prepare_9 o post (zfix (wbc_X8_prepare_9 o post) N) (v2, v3, σ) := h
    have hC9 := ih
    clear ih
    generalize zfix (wbc_X8_prepare_9 o post) N = C9 at h hC9
    dsimp only [wbc_X8_prepare_9] at h
    refine z_iload_n X 3 dX8_prepare_9 rfl ?_
    refine z_iload_n X 2 dX8_prepare_10 rfl ?_
    obtain ⟨i1, h⟩ := h
    obtain ⟨i2, h⟩ := h
    refine z_icmp_ge X 46 dX8_prepare_11 rfl i1 i2 (fun c3 => ?_) (fun c3 => ?_)
    · have h := h.1 c3
      exact hR _ _ _ _ _ _ dX8_prepare_46 (Nat.le_refl 0) (Nat.le_refl 0) h
    · have h := h.2 c3
      refine z_aload_n X 0 dX8_prepare_14 rfl ?_
      refine gC_X8_9_X8 X K ho dX8_prepare_15 ?_
      refine z_iload_n X 3 dX8_prepare_18 rfl ?_
      refine z_iconst X 1 dX8_prepare_19 ?_
      refine z_iadd X dX8_prepare_20 ?_
      refine z_aload_n X 0 dX8_prepare_21 rfl ?_
      refine gC_X8_9_X8 X K ho dX8_prepare_22 ?_
      refine z_iload_n X 3 dX8_prepare_25 rfl ?_
      obtain ⟨x4, h⟩ := h
      refine z_ald' X K (o + 2) (hq_X8_2 ho) (hL_X8_2 ho) rfl (Nat.le_of_ble_eq_true rfl) dX8_prepare_26 x4 ?_
      refine z_aload_n X 0 dX8_prepare_27 rfl ?_
      refine z_aload_n X 1 dX8_prepare_28 rfl ?_
      refine z_iload_n X 3 dX8_prepare_29 rfl ?_
      obtain ⟨x5, h⟩ := h
      refine z_aldB' X K 66 (Nat.le_of_ble_eq_true rfl) rfl rfl (Nat.le_of_ble_eq_true rfl) dX8_prepare_30 x5 ?_
      refine z_sipush X 255 dX8_prepare_31 rfl ?_
      refine z_iandm X 8 (M := 256) rfl rfl rfl dX8_prepare_34 ?_
      refine clc_X8_49_X8 X K ho rfl h (Nat.le_of_ble_eq_true rfl) dX8_prepare_35 ⟨Nat.zero_le _, Nat.zero_le _⟩ (fun r7 σ6 h => ?_)
      refine z_iadd X dX8_prepare_38 ?_
      obtain ⟨x8, h⟩ := h
      refine z_ast' X K (o + 2) (hq_X8_2 ho) (hL_X8_2 ho) rfl (Nat.le_of_ble_eq_true rfl) dX8_prepare_39 x8 (fun σ9 eσ9 => ?_)
      have h := h σ9 eσ9
      refine z_iincK X K 3 (lv' := [(3, .int (iz (v3 + 1))), (0, .ref (ad o)), (1, .ref (ad 66)), (2, .int (iz v2))]) dX8_prepare_40 rfl rfl rfl ?_
      refine z_goto (tgt := 9) X dX8_prepare_43 rfl ?_
      exact z_sub [1, 2, 3, 0] rfl (hC9 _ _ _ h)
set_option maxRecDepth 100000 in
theorem mtc_X8_prepare (l : Launch) (D : va_G) (ds : Nat → ClassId) (ad : Nat → Nat) (o : Nat) (a1 : Int) (σ : ZS) (post : ZS → Prop) (h : wc_X8_prepare o a1 σ post) : ZMetV l (ΘC D ds ad) yX8_prepare cX8_prepare 4 3 47 0 0 [.ref (ad o), .ref (ad 66), .int (iz a1)] σ post := by
  refine ZMetV.of (by decide) (Nat.le_of_ble_eq_true rfl) (fun Γ X K hR => ?_)
  have X : ZX Γ cX8_prepare RX8 3 47 := X
  refine z_sub [0, 1, 2] (lv' := [(0, .ref (ad o)), (1, .ref (ad 66)), (2, .int (iz a1))]) rfl ?_
  obtain ⟨ho, h⟩ := h
  refine z_aload_n X 0 dX8_prepare_0 rfl ?_
  refine gC_X8_9_X8 X K ho dX8_prepare_1 ?_
  refine z_iconst X 0 dX8_prepare_4 ?_
  refine z_iconst X 0 dX8_prepare_5 ?_
  refine z_ast' X K (o + 2) (hq_X8_2 ho) (hL_X8_2 ho) rfl (Nat.le_of_ble_eq_true rfl) dX8_prepare_6 (by decide) (fun σ1 eσ1 => ?_)
  have h := h σ1 eσ1
  refine z_iconst X 0 dX8_prepare_7 ?_
  refine z_istore_nK X K (lv' := [(3, .int (iz 0)), (0, .ref (ad o)), (1, .ref (ad 66)), (2, .int (iz a1))]) dX8_prepare_8 rfl rfl ?_
  obtain ⟨N, h⟩ := h
  exact z_sub [1, 2, 3, 0] rfl (wkc_X8_prepare_9 X K hR ho N _ _ _ h)
/- X8_open -/
set_option maxRecDepth 100000 in
theorem mtc_X8_open (l : Launch) (D : va_G) (ds : Nat → ClassId) (ad : Nat → Nat) (o : Nat) (a0 : Int) (a1 : Int) (σ : ZS) (post : Int → ZS → Prop) (h : wc_X8_open o a0 a1 σ post) : ZMetI l (ΘC D ds ad) yX8_open cX8_open 4 .int 2 24 0 0 [.ref (ad o), .int (iz a0), .int (iz a1)] σ post := by
  refine ZMetI.of (by decide) (Nat.le_of_ble_eq_true rfl) (fun Γ X K hR => ?_)
  have X : ZX Γ cX8_open RX8 2 24 := X
  refine z_sub [0, 1, 2] (lv' := [(0, .ref (ad o)), (1, .int (iz a0)), (2, .int (iz a1))]) rfl ?_
  obtain ⟨ho, h⟩ := h
  refine z_aload_n X 0 dX8_open_0 rfl ?_
  refine gC_X8_9_X8 X K ho dX8_open_1 ?_
  refine z_iload_n X 1 dX8_open_4 rfl ?_
  refine z_iload_n X 2 dX8_open_5 rfl ?_
  refine z_iadd X dX8_open_6 ?_
  obtain ⟨x1, h⟩ := h
  refine z_ald' X K (o + 2) (hq_X8_2 ho) (hL_X8_2 ho) rfl (Nat.le_of_ble_eq_true rfl) dX8_open_7 x1 ?_
  refine z_aload_n X 0 dX8_open_8 rfl ?_
  refine gC_X8_9_X8 X K ho dX8_open_9 ?_
  refine z_iload_n X 1 dX8_open_12 rfl ?_
  obtain ⟨x2, h⟩ := h
  refine z_ald' X K (o + 2) (hq_X8_2 ho) (hL_X8_2 ho) rfl (Nat.le_of_ble_eq_true rfl) dX8_open_13 x2 ?_
  refine z_isub X dX8_open_14 ?_
  refine z_topi (fun v3_3 ev3_3 => ?_)
  have h := h v3_3 ev3_3
  refine z_istore_nK X K (lv' := [(3, .int (iz v3_3)), (0, .ref (ad o)), (1, .int (iz a0)), (2, .int (iz a1))]) dX8_open_15 rfl rfl ?_
  refine z_iload_n X 0 dX8_open_16 rfl ?_
  refine z_iconst X 3 dX8_open_17 ?_
  obtain ⟨i4, h⟩ := h
  obtain ⟨g5, h⟩ := h
  refine z_irem X dX8_open_18 ⟨i4, (by decide), g5, (by decide)⟩ ?_
  refine z_iconst X 1 dX8_open_19 ?_
  obtain ⟨i6, h⟩ := h
  refine z_icmp_ne X 28 dX8_open_20 rfl i6 (by decide) (fun c7 => ?_) (fun c7 => ?_)
  · have h := h.1 c7
    refine z_iconst X 1 dX8_open_28 ?_
    refine z_iload_n X 0 dX8_open_29 rfl ?_
    refine z_iconst X 2 dX8_open_30 ?_
    refine z_iadd X dX8_open_31 ?_
    refine z_iconst X 3 dX8_open_32 ?_
    obtain ⟨i8, h⟩ := h
    obtain ⟨g9, h⟩ := h
    refine z_idiv X dX8_open_33 ⟨i8, (by decide), g9, (by decide)⟩ ?_
    refine z_iconst X 2 dX8_open_34 ?_
    refine z_imul X dX8_open_35 ?_
    refine z_iadd X dX8_open_36 ?_
    exact hR _ _ _ _ _ _ _ dX8_open_37 rfl (Nat.le_refl 0) (Nat.le_refl 0) h
  · have h := h.2 c7
    refine z_ldc X 1000000 q661 rfl dX8_open_23 ?_
    refine z_goto (tgt := 37) X dX8_open_25 rfl ?_
    exact hR _ _ _ _ _ _ _ dX8_open_37 rfl (Nat.le_refl 0) (Nat.le_refl 0) h
/- X8_closed -/
theorem clc_X8_54_X8 {Γ : ZG} {cc : ByteArray} {fr lo nL mc0 ms0 k n pc : Nat} {xs : va_W} {lv : List (Nat × Value)} {st : List Value} {l : Launch} {D : va_G} {ds : Nat → ClassId} {ad : Nat → Nat} {a0 : Int} {a1 : Int} {σ : ZS} {post : Int → ZS → Prop} (X : ZX Γ cc RX8 fr lo) (K : ZCap Γ l (ΘC D ds ad) nL mc0 ms0) {o : Nat} (ho : isSe o) (hrm : zroom 3 47 fr lo = true) (h : wc_X8_open o a0 a1 σ post) (hst : (st.map fun v => v.category).sum ≤ 8) (d : decode cc pc = .ok (.invokevirtual 54, 3)) (hcs : k ≤ mc0 ∧ n ≤ ms0) (kk : ∀ (r : Int) (σ' : ZS), post r σ' → Z Γ k n σ' xs (pc + 3) lv (.int (iz r) :: st)) : Z Γ k n σ xs pc lv (.int (iz a1) :: .int (iz a0) :: .ref (ad o) :: st) := by
  rcases ho with rfl | rfl
  · exact z_callVI' (C := RX8) (q0 := 53) X K (mtc_X8_open l D ds ad 53 a0 a1 σ post h) (Nat.le_of_ble_eq_true rfl) rfl rfl rfl (lw_V q657 q658 q659 q118 q660) ⟨rfl, by decide, by decide, rfl⟩ (zroom_of (zroom_le hrm (by decide))) ⟨by rw [K.2.2.2.1]; exact hcs.1, by rw [K.2.2.2.2]; exact hcs.2⟩ hst d rfl kk
  · exact z_callVI' (C := RX8) (q0 := 56) X K (mtc_X8_open l D ds ad 56 a0 a1 σ post h) (Nat.le_of_ble_eq_true rfl) rfl rfl rfl (lw_V q657 q658 q659 q118 q660) ⟨rfl, by decide, by decide, rfl⟩ (zroom_of (zroom_le hrm (by decide))) ⟨by rw [K.2.2.2.1]; exact hcs.1, by rw [K.2.2.2.2]; exact hcs.2⟩ hst d rfl kk
set_option maxRecDepth 100000 in
theorem mtc_X8_closed (l : Launch) (D : va_G) (ds : Nat → ClassId) (ad : Nat → Nat) (o : Nat) (a0 : Int) (a1 : Int) (σ : ZS) (post : Int → ZS → Prop) (h : wc_X8_closed o a0 a1 σ post) : ZMetI l (ΘC D ds ad) yX8_closed cX8_closed 3 .int 3 47 0 0 [.ref (ad o), .int (iz a0), .int (iz a1)] σ post := by
  refine ZMetI.of (by decide) (Nat.le_of_ble_eq_true rfl) (fun Γ X K hR => ?_)
  have X : ZX Γ cX8_closed RX8 3 47 := X
  refine z_sub [0, 1, 2] (lv' := [(0, .ref (ad o)), (1, .int (iz a0)), (2, .int (iz a1))]) rfl ?_
  obtain ⟨ho, h⟩ := h
  refine z_aload_n X 0 dX8_closed_0 rfl ?_
  refine z_iload_n X 1 dX8_closed_1 rfl ?_
  refine z_iload_n X 2 dX8_closed_2 rfl ?_
  refine clc_X8_54_X8 X K ho rfl h (Nat.le_of_ble_eq_true rfl) dX8_closed_3 ⟨Nat.zero_le _, Nat.zero_le _⟩ (fun r2 σ1 h => ?_)
  refine z_iconst X 1 dX8_closed_6 ?_
  refine z_iadd X dX8_closed_7 ?_
  exact hR _ _ _ _ _ _ _ dX8_closed_8 rfl (Nat.le_refl 0) (Nat.le_refl 0) h
/- X8_tells -/
theorem clc_X8_39 {Γ : ZG} {cc : ByteArray} {fr lo nL mc0 ms0 k n pc : Nat} {xs : va_W} {lv : List (Nat × Value)} {st : List Value} {l : Launch} {D : va_G} {ds : Nat → ClassId} {ad : Nat → Nat} {a0 : Int} {σ : ZS} {post : ZS → Prop} (X : ZX Γ cc RX8 fr lo) (K : ZCap Γ l (ΘC D ds ad) nL mc0 ms0) (hrm : zroom 3 45 fr lo = true) (h : wc_X4_tell a0 σ post) (hst : (st.map fun v => v.category).sum ≤ 8) (d : decode cc pc = .ok (.invokevirtual 39, 3)) (hcs : k ≤ mc0 ∧ n ≤ ms0) (kk : ∀ (σ' : ZS), post σ' → Z Γ k n σ' xs (pc + 3) lv (st)) : Z Γ k n σ xs pc lv (.int (iz a0) :: .ref (ad 45) :: st) := 
  z_callVV' (C := RX4) (q0 := 45) X K (mtc_X4_tell l D ds ad a0 σ post h) (Nat.le_of_ble_eq_true rfl) rfl rfl rfl (lw_V q1082 q1019 q1020 q111 q1021) ⟨rfl, by decide, by decide, rfl⟩ (zroom_of (zroom_le hrm (by decide))) ⟨by rw [K.2.2.2.1]; exact hcs.1, by rw [K.2.2.2.2]; exact hcs.2⟩ hst d rfl kk
set_option maxRecDepth 100000 in
theorem mtc_X8_tells (l : Launch) (D : va_G) (ds : Nat → ClassId) (ad : Nat → Nat) (o : Nat) (a1 : Int) (σ : ZS) (post : ZS → Prop) (h : wc_X8_tells o a1 σ post) : ZMetV l (ΘC D ds ad) yX8_tells cX8_tells 3 3 45 0 0 [.ref (ad o), .ref (ad 45), .int (iz a1)] σ post := by
  refine ZMetV.of (by decide) (Nat.le_of_ble_eq_true rfl) (fun Γ X K hR => ?_)
  have X : ZX Γ cX8_tells RX8 3 45 := X
  refine z_sub [0, 1, 2] (lv' := [(0, .ref (ad o)), (1, .ref (ad 45)), (2, .int (iz a1))]) rfl ?_
  obtain ⟨ho, h⟩ := h
  refine z_aload_n X 1 dX8_tells_0 rfl ?_
  refine z_iload_n X 2 dX8_tells_1 rfl ?_
  refine z_aload_n X 0 dX8_tells_2 rfl ?_
  refine gC_X8_23_X8 X K ho dX8_tells_3 ?_
  refine z_iadd X dX8_tells_6 ?_
  refine clc_X8_39 X K rfl h (Nat.le_of_ble_eq_true rfl) dX8_tells_7 ⟨Nat.zero_le _, Nat.zero_le _⟩ (fun σ1 h => ?_)
  refine z_aload_n X 0 dX8_tells_10 rfl ?_
  refine z_iconst X 0 dX8_tells_11 ?_
  refine pC_X8_23_X8 X K ho dX8_tells_12 (fun σ2 eσ2 => ?_)
  have h := h σ2 eσ2
  exact hR _ _ _ _ _ _ dX8_tells_15 (Nat.le_refl 0) (Nat.le_refl 0) h
/- X7_leaves -/
set_option maxRecDepth 100000 in
theorem mtc_X7_leaves (l : Launch) (D : va_G) (ds : Nat → ClassId) (ad : Nat → Nat) (o : Nat) (σ : ZS) (post : Int → ZS → Prop) (h : wc_X7_leaves o σ post) : ZMetI l (ΘC D ds ad) yX7_leaves cX7_leaves 1 .int 2 24 0 0 [.ref (ad o)] σ post := by
  refine ZMetI.of (by decide) (Nat.le_of_ble_eq_true rfl) (fun Γ X K hR => ?_)
  have X : ZX Γ cX7_leaves RX7 2 24 := X
  refine z_sub [0] (lv' := [(0, .ref (ad o))]) rfl ?_
  obtain ⟨ho, h⟩ := h
  refine z_iconst X 1 dX7_leaves_0 ?_
  exact hR _ _ _ _ _ _ _ dX7_leaves_1 rfl (Nat.le_refl 0) (Nat.le_refl 0) h
/- X7_write -/
theorem clc_X7_50 {Γ : ZG} {cc : ByteArray} {fr lo nL mc0 ms0 k n pc : Nat} {xs : va_W} {lv : List (Nat × Value)} {st : List Value} {l : Launch} {D : va_G} {ds : Nat → ClassId} {ad : Nat → Nat} {a0 : Int} {σ : ZS} {post : ZS → Prop} (X : ZX Γ cc RX7 fr lo) (K : ZCap Γ l (ΘC D ds ad) nL mc0 ms0) (hrm : zroom 3 45 fr lo = true) (h : wc_X4_put a0 σ post) (hst : (st.map fun v => v.category).sum ≤ 8) (d : decode cc pc = .ok (.invokevirtual 50, 3)) (hcs : k ≤ mc0 ∧ n ≤ ms0) (kk : ∀ (σ' : ZS), post σ' → Z Γ k n σ' xs (pc + 3) lv (st)) : Z Γ k n σ xs pc lv (.int (iz a0) :: .ref (ad 48) :: st) := 
  z_callVV' (C := RX4) (q0 := 48) X K (mtc_X4_put l D ds ad a0 σ post h) (Nat.le_of_ble_eq_true rfl) rfl rfl rfl (lw_V q827 q773 q774 q111 q775) ⟨rfl, by decide, by decide, rfl⟩ (zroom_of (zroom_le hrm (by decide))) ⟨by rw [K.2.2.2.1]; exact hcs.1, by rw [K.2.2.2.2]; exact hcs.2⟩ hst d rfl kk
theorem clc_X7_47_Th {Γ : ZG} {cc : ByteArray} {fr lo nL mc0 ms0 k n pc : Nat} {xs : va_W} {lv : List (Nat × Value)} {st : List Value} {l : Launch} {D : va_G} {ds : Nat → ClassId} {ad : Nat → Nat} {a0 : Int} {σ : ZS} {post : ZS → Prop} (X : ZX Γ cc RX7 fr lo) (K : ZCap Γ l (ΘC D ds ad) nL mc0 ms0) {o : Nat} (ho : isTh o) (hrm : zroom 3 45 fr lo = true) (h : wc_X7_add o a0 σ post) (hst : (st.map fun v => v.category).sum ≤ 8) (d : decode cc pc = .ok (.invokevirtual 47, 3)) (hcs : k ≤ mc0 ∧ n ≤ ms0) (kk : ∀ (σ' : ZS), post σ' → Z Γ k n σ' xs (pc + 3) lv (st)) : Z Γ k n σ xs pc lv (.int (iz a0) :: .ref (ad o) :: st) := by
  rcases ho with rfl | rfl | rfl
  · exact z_callUV' (C := RX8) (owner := "MatrixPress$Threes") (q0 := 53) X K (mtc_X7_add l D ds ad 53 a0 σ post h) (Nat.le_of_ble_eq_true rfl) rfl rfl rfl (lw_U q826 q1735 q1736 q814 q117 q815) (va_Decl.abs (X.nw q812 rfl)) ⟨by decide, by decide, rfl⟩ (zroom_of (zroom_le hrm (by decide))) ⟨by rw [K.2.2.2.1]; exact hcs.1, by rw [K.2.2.2.2]; exact hcs.2⟩ hst d rfl kk
  · exact z_callUV' (C := RX8) (owner := "MatrixPress$Threes") (q0 := 56) X K (mtc_X7_add l D ds ad 56 a0 σ post h) (Nat.le_of_ble_eq_true rfl) rfl rfl rfl (lw_U q826 q1735 q1736 q814 q117 q815) (va_Decl.abs (X.nw q812 rfl)) ⟨by decide, by decide, rfl⟩ (zroom_of (zroom_le hrm (by decide))) ⟨by rw [K.2.2.2.1]; exact hcs.1, by rw [K.2.2.2.2]; exact hcs.2⟩ hst d rfl kk
  · exact z_callUV' (C := RX9) (owner := "MatrixPress$Threes") (q0 := 59) X K (mtc_X7_add l D ds ad 59 a0 σ post h) (Nat.le_of_ble_eq_true rfl) rfl rfl rfl (lw_U q826 q1735 q1737 q814 q117 q815) (va_Decl.abs (X.nw q812 rfl)) ⟨by decide, by decide, rfl⟩ (zroom_of (zroom_le hrm (by decide))) ⟨by rw [K.2.2.2.1]; exact hcs.1, by rw [K.2.2.2.2]; exact hcs.2⟩ hst d rfl kk
theorem clc_X7_44_Th {Γ : ZG} {cc : ByteArray} {fr lo nL mc0 ms0 k n pc : Nat} {xs : va_W} {lv : List (Nat × Value)} {st : List Value} {l : Launch} {D : va_G} {ds : Nat → ClassId} {ad : Nat → Nat} {a0 : Int} {σ : ZS} {post : ZS → Prop} (X : ZX Γ cc RX7 fr lo) (K : ZCap Γ l (ΘC D ds ad) nL mc0 ms0) {o : Nat} (ho : isTh o) (hrm : zroom 5 90 fr lo = true) (h : wv_Th_values o a0 σ post) (hst : (st.map fun v => v.category).sum ≤ 8) (d : decode cc pc = .ok (.invokevirtual 44, 3)) (hcs : k ≤ mc0 ∧ n ≤ ms0) (kk : ∀ (σ' : ZS), post σ' → Z Γ k n σ' xs (pc + 3) lv (st)) : Z Γ k n σ xs pc lv (.int (iz a0) :: .ref (ad o) :: st) := by
  rcases ho with rfl | rfl | rfl
  · exact z_callUV' (C := RX8) (owner := "MatrixPress$Threes") (q0 := 53) X K (mtc_X8_values l D ds ad 53 a0 σ post (h.1 (Or.inl rfl))) (Nat.le_of_ble_eq_true rfl) rfl rfl rfl (lw_U q804 q806 q807 q808 q118 q809) (va_Decl.abs (X.nw q805 rfl)) ⟨by decide, by decide, rfl⟩ (zroom_of (zroom_le hrm (by decide))) ⟨by rw [K.2.2.2.1]; exact hcs.1, by rw [K.2.2.2.2]; exact hcs.2⟩ hst d rfl kk
  · exact z_callUV' (C := RX8) (owner := "MatrixPress$Threes") (q0 := 56) X K (mtc_X8_values l D ds ad 56 a0 σ post (h.1 (Or.inr rfl))) (Nat.le_of_ble_eq_true rfl) rfl rfl rfl (lw_U q804 q806 q807 q808 q118 q809) (va_Decl.abs (X.nw q805 rfl)) ⟨by decide, by decide, rfl⟩ (zroom_of (zroom_le hrm (by decide))) ⟨by rw [K.2.2.2.1]; exact hcs.1, by rw [K.2.2.2.2]; exact hcs.2⟩ hst d rfl kk
  · exact z_callUV' (C := RX9) (owner := "MatrixPress$Threes") (q0 := 59) X K (mtc_X9_values l D ds ad a0 σ post (h.2 rfl)) (Nat.le_of_ble_eq_true rfl) rfl rfl rfl (lw_U q804 q806 q820 q821 q123 q822) (va_Decl.abs (X.nw q805 rfl)) ⟨by decide, by decide, rfl⟩ (zroom_of (zroom_le hrm (by decide))) ⟨by rw [K.2.2.2.1]; exact hcs.1, by rw [K.2.2.2.2]; exact hcs.2⟩ hst d rfl kk
set_option maxRecDepth 100000 in
theorem wkc_X7_write_53 {Γ : ZG} {l : Launch} {D : va_G} {ds : Nat → ClassId} {ad : Nat → Nat} {post : ZS → Prop} {o : Nat} (X : ZX Γ cX7_write RX7 5 90) (K : ZCap Γ l (ΘC D ds ad) 8 0 0) (hR : ZRetV Γ cX7_write 0 0 post) (ho : isTh o) : ∀ (N : Nat) (v5 : Int) (v6 : Int) (σ : ZS), zfix (wbc_X7_write_53 o post) N (v5, v6, σ) → Z Γ 0 0 σ [] 53 [(0, .ref (ad o)), (1, .ref (ad 48)), (5, .int (iz v5)), (6, .int (iz v6))] [] := by
  intro N
  induction N with
  | zero => intro v5 v6 σ h; exact False.elim h
  | succ N ih =>
    intro v5 v6 σ h
    have h : wbc_X7_write_53 o post (zfix (wbc_X7_write_53 o post) N) (v5, v6, σ) := h
    have hC53 := ih
    clear ih
    generalize zfix (wbc_X7_write_53 o post) N = C53 at h hC53
    dsimp only [wbc_X7_write_53] at h
    refine z_iload X 3 dX7_write_53 rfl ?_
    refine z_aload_n X 0 dX7_write_55 rfl ?_
    refine gC_X7_40_Th X K ho dX7_write_56 ?_
    obtain ⟨i1, h⟩ := h
    obtain ⟨i2, h⟩ := h
    refine z_icmp_ge X 126 dX7_write_59 rfl i1 i2 (fun c3 => ?_) (fun c3 => ?_)
    · have h := h.1 c3
      refine z_iload X 2 dX7_write_126 rfl ?_
      obtain ⟨i4, h⟩ := h
      refine z_if_eq X 138 dX7_write_128 rfl i4 (fun c5 => ?_) (fun c5 => ?_)
      · have h := h.1 c5
        exact hR _ _ _ _ _ _ dX7_write_138 (Nat.le_refl 0) (Nat.le_refl 0) h
      · have h := h.2 c5
        refine z_aload_n X 1 dX7_write_131 rfl ?_
        refine z_sipush X 254 dX7_write_132 rfl ?_
        refine clc_X7_50 X K rfl h (Nat.le_of_ble_eq_true rfl) dX7_write_135 ⟨Nat.zero_le _, Nat.zero_le _⟩ (fun σ6 h => ?_)
        exact hR _ _ _ _ _ _ dX7_write_138 (Nat.le_refl 0) (Nat.le_refl 0) h
    · have h := h.2 c3
      refine z_sipush X 1600 dX7_write_62 rfl ?_
      refine z_aload_n X 0 dX7_write_65 rfl ?_
      refine gC_X7_9_Th X K ho dX7_write_66 ?_
      refine z_iload X 3 dX7_write_69 rfl ?_
      obtain ⟨x7, h⟩ := h
      refine z_ald' X K (o + 1) (hq_Th_1 ho) (hL_Th_1 ho) rfl (Nat.le_of_ble_eq_true rfl) dX7_write_71 x7 ?_
      refine z_imul X dX7_write_72 ?_
      refine z_bipush X 40 dX7_write_73 rfl ?_
      refine z_aload_n X 0 dX7_write_75 rfl ?_
      refine gC_X7_9_Th X K ho dX7_write_76 ?_
      refine z_iload X 3 dX7_write_79 rfl ?_
      refine z_iconst X 1 dX7_write_81 ?_
      refine z_iadd X dX7_write_82 ?_
      obtain ⟨x8, h⟩ := h
      refine z_ald' X K (o + 1) (hq_Th_1 ho) (hL_Th_1 ho) rfl (Nat.le_of_ble_eq_true rfl) dX7_write_83 x8 ?_
      refine z_imul X dX7_write_84 ?_
      refine z_iadd X dX7_write_85 ?_
      refine z_aload_n X 0 dX7_write_86 rfl ?_
      refine gC_X7_9_Th X K ho dX7_write_87 ?_
      refine z_iload X 3 dX7_write_90 rfl ?_
      refine z_iconst X 2 dX7_write_92 ?_
      refine z_iadd X dX7_write_93 ?_
      obtain ⟨x9, h⟩ := h
      refine z_ald' X K (o + 1) (hq_Th_1 ho) (hL_Th_1 ho) rfl (Nat.le_of_ble_eq_true rfl) dX7_write_94 x9 ?_
      refine z_iadd X dX7_write_95 ?_
      refine z_iconst X 1 dX7_write_96 ?_
      refine z_iadd X dX7_write_97 ?_
      refine z_topi (fun v7_10 ev7_10 => ?_)
      have h := h v7_10 ev7_10
      refine z_istoreK X K (lv' := [(7, .int (iz v7_10)), (0, .ref (ad o)), (1, .ref (ad 48)), (5, .int (iz v5)), (6, .int (iz v6))]) dX7_write_98 rfl rfl ?_
      refine z_aload_n X 2 dX7_write_100 rfl ?_
      refine z_iload X 0 dX7_write_101 rfl ?_
      refine z_sipush X 256 dX7_write_103 rfl ?_
      obtain ⟨i11, h⟩ := h
      obtain ⟨g12, h⟩ := h
      refine z_idiv X dX7_write_106 ⟨i11, (by decide), g12, (by decide)⟩ ?_
      refine clc_X7_50 X K rfl h (Nat.le_of_ble_eq_true rfl) dX7_write_107 ⟨Nat.zero_le _, Nat.zero_le _⟩ (fun σ13 h => ?_)
      refine z_aload_n X 2 dX7_write_110 rfl ?_
      refine z_iload X 0 dX7_write_111 rfl ?_
      refine z_sipush X 256 dX7_write_113 rfl ?_
      refine z_irem X dX7_write_116 ⟨i11, (by decide), g12, (by decide)⟩ ?_
      refine clc_X7_50 X K rfl h (Nat.le_of_ble_eq_true rfl) dX7_write_117 ⟨Nat.zero_le _, Nat.zero_le _⟩ (fun σ14 h => ?_)
      refine z_iincK X K 4 (lv' := [(6, .int (iz (v6 + 3))), (7, .int (iz v7_10)), (0, .ref (ad o)), (1, .ref (ad 48)), (5, .int (iz v5))]) dX7_write_120 rfl rfl rfl ?_
      refine z_goto (tgt := 53) X dX7_write_123 rfl ?_
      exact z_sub [2, 3, 4, 0] rfl (hC53 _ _ _ h)
set_option maxRecDepth 100000 in
theorem wkc_X7_write_50 {Γ : ZG} {l : Launch} {D : va_G} {ds : Nat → ClassId} {ad : Nat → Nat} {post : ZS → Prop} {o : Nat} (X : ZX Γ cX7_write RX7 5 90) (K : ZCap Γ l (ΘC D ds ad) 8 0 0) (hR : ZRetV Γ cX7_write 0 0 post) (ho : isTh o) (v5 : Int) (σ : ZS) (h : wc_X7_write_50 o post v5 σ) : Z Γ 0 0 σ [] 50 [(0, .ref (ad o)), (1, .ref (ad 48)), (5, .int (iz v5))] [] := by
  refine z_iconst X 0 dX7_write_50 ?_
  refine z_istoreK X K (lv' := [(6, .int (iz 0)), (0, .ref (ad o)), (1, .ref (ad 48)), (5, .int (iz v5))]) dX7_write_51 rfl rfl ?_
  obtain ⟨N, h⟩ := h
  exact z_sub [1, 2, 3, 0] rfl (wkc_X7_write_53 X K hR ho N _ _ _ h)
set_option maxRecDepth 100000 in
theorem wkc_X7_write_8 {Γ : ZG} {l : Launch} {D : va_G} {ds : Nat → ClassId} {ad : Nat → Nat} {post : ZS → Prop} {o : Nat} (X : ZX Γ cX7_write RX7 5 90) (K : ZCap Γ l (ΘC D ds ad) 8 0 0) (hR : ZRetV Γ cX7_write 0 0 post) (ho : isTh o) : ∀ (N : Nat) (v3 : Int) (v4 : Int) (v5 : Int) (v6 : Int) (σ : ZS), zfix (wbc_X7_write_8 o post) N (v3, v4, v5, v6, σ) → Z Γ 0 0 σ [] 8 [(0, .ref (ad o)), (1, .ref (ad 48)), (2, .ref (ad 66)), (3, .int (iz v3)), (4, .int (iz v4)), (5, .int (iz v5)), (6, .int (iz v6))] [] := by
  intro N
  induction N with
  | zero => intro v3 v4 v5 v6 σ h; exact False.elim h
  | succ N ih =>
    intro v3 v4 v5 v6 σ h
    have h : wbc_X7_write_8 o post (zfix (wbc_X7_write_8 o post) N) (v3, v4, v5, v6, σ) := h
    have hC8 := ih
    clear ih
    generalize zfix (wbc_X7_write_8 o post) N = C8 at h hC8
    dsimp only [wbc_X7_write_8] at h
    refine z_iload X 6 dX7_write_8 rfl ?_
    refine z_iload_n X 3 dX7_write_10 rfl ?_
    refine z_iload X 4 dX7_write_11 rfl ?_
    refine z_iadd X dX7_write_13 ?_
    obtain ⟨i1, h⟩ := h
    obtain ⟨i2, h⟩ := h
    refine z_icmp_ge X 35 dX7_write_14 rfl i1 i2 (fun c3 => ?_) (fun c3 => ?_)
    · have h := h.1 c3
      refine z_aload_n X 0 dX7_write_35 rfl ?_
      refine gC_X7_40_Th X K ho dX7_write_36 ?_
      refine z_iconst X 3 dX7_write_39 ?_
      obtain ⟨i4, h⟩ := h
      obtain ⟨g5, h⟩ := h
      refine z_irem X dX7_write_40 ⟨i4, (by decide), g5, (by decide)⟩ ?_
      refine z_iconst X 2 dX7_write_41 ?_
      obtain ⟨i6, h⟩ := h
      refine z_icmp_ne X 50 dX7_write_42 rfl i6 (by decide) (fun c7 => ?_) (fun c7 => ?_)
      · have h := h.1 c7
        exact z_sub [0, 1, 5] rfl (wkc_X7_write_50 X K hR ho _ _ h)
      · have h := h.2 c7
        refine z_aload_n X 0 dX7_write_45 rfl ?_
        refine z_iconst X 0 dX7_write_46 ?_
        refine clc_X7_47_Th X K ho rfl h (Nat.le_of_ble_eq_true rfl) dX7_write_47 ⟨Nat.zero_le _, Nat.zero_le _⟩ (fun σ8 h => ?_)
        exact z_sub [0, 1, 5] rfl (wkc_X7_write_50 X K hR ho _ _ h)
    · have h := h.2 c3
      refine z_aload_n X 0 dX7_write_17 rfl ?_
      refine z_aload_n X 2 dX7_write_18 rfl ?_
      refine z_iload X 6 dX7_write_19 rfl ?_
      obtain ⟨x9, h⟩ := h
      refine z_aldB' X K 66 (Nat.le_of_ble_eq_true rfl) rfl rfl (Nat.le_of_ble_eq_true rfl) dX7_write_21 x9 ?_
      refine z_sipush X 255 dX7_write_22 rfl ?_
      refine z_iandm X 8 (M := 256) rfl rfl rfl dX7_write_25 ?_
      refine clc_X7_44_Th X K ho rfl h (Nat.le_of_ble_eq_true rfl) dX7_write_26 ⟨Nat.zero_le _, Nat.zero_le _⟩ (fun σ10 h => ?_)
      refine z_iincK X K 6 (lv' := [(6, .int (iz (v6 + 1))), (0, .ref (ad o)), (1, .ref (ad 48)), (2, .ref (ad 66)), (3, .int (iz v3)), (4, .int (iz v4)), (5, .int (iz v5))]) dX7_write_29 rfl rfl rfl ?_
      refine z_goto (tgt := 8) X dX7_write_32 rfl ?_
      exact z_sub [1, 2, 3, 4, 5, 6, 0] rfl (hC8 _ _ _ _ _ h)
set_option maxRecDepth 100000 in
theorem mtc_X7_write (l : Launch) (D : va_G) (ds : Nat → ClassId) (ad : Nat → Nat) (o : Nat) (a2 : Int) (a3 : Int) (a4 : Int) (σ : ZS) (post : ZS → Prop) (h : wc_X7_write o a2 a3 a4 σ post) : ZMetV l (ΘC D ds ad) yX7_write cX7_write 8 5 90 0 0 [.ref (ad o), .ref (ad 48), .ref (ad 66), .int (iz a2), .int (iz a3), .int (iz a4)] σ post := by
  refine ZMetV.of (by decide) (Nat.le_of_ble_eq_true rfl) (fun Γ X K hR => ?_)
  have X : ZX Γ cX7_write RX7 5 90 := X
  refine z_sub [0, 1, 2, 3, 4, 5] (lv' := [(0, .ref (ad o)), (1, .ref (ad 48)), (2, .ref (ad 66)), (3, .int (iz a2)), (4, .int (iz a3)), (5, .int (iz a4))]) rfl ?_
  obtain ⟨ho, h⟩ := h
  refine z_aload_n X 0 dX7_write_0 rfl ?_
  refine z_iconst X 0 dX7_write_1 ?_
  refine pC_X7_40_Th X K ho dX7_write_2 (fun σ1 eσ1 => ?_)
  have h := h σ1 eσ1
  refine z_iload_n X 3 dX7_write_5 rfl ?_
  refine z_istoreK X K (lv' := [(6, .int (iz a2)), (0, .ref (ad o)), (1, .ref (ad 48)), (2, .ref (ad 66)), (3, .int (iz a2)), (4, .int (iz a3)), (5, .int (iz a4))]) dX7_write_6 rfl rfl ?_
  obtain ⟨N, h⟩ := h
  exact z_sub [1, 2, 3, 4, 5, 6, 0] rfl (wkc_X7_write_8 X K hR ho N _ _ _ _ _ h)
/- X10_prepare -/
set_option maxRecDepth 100000 in
theorem wkc_X10_prepare_50 {Γ : ZG} {l : Launch} {D : va_G} {ds : Nat → ClassId} {ad : Nat → Nat} {post : ZS → Prop} (X : ZX Γ cX10_prepare RX10 2 24) (K : ZCap Γ l (ΘC D ds ad) 4 0 0) (hR : ZRetV Γ cX10_prepare 0 0 post) {C11 : Int × ZS → Prop} (hC11 : ∀ (v3 : Int) (σ : ZS), C11 (v3, σ) → Z Γ 0 0 σ [] 11 [(0, .ref (ad 62)), (1, .ref (ad 66)), (3, .int (iz v3))] []) (v3 : Int) (t0 : Int) (t1 : Int) (σ : ZS) (h : wc_X10_prepare_50 C11 post v3 t0 t1 σ) : Z Γ 0 0 σ [] 50 [(0, .ref (ad 62)), (1, .ref (ad 66)), (3, .int (iz v3))] [.int (iz t0), .int (iz t1), .ref (ad 63)] := by
  obtain ⟨x1, h⟩ := h
  refine z_ast' X K 63 (Nat.le_of_ble_eq_true rfl) rfl rfl (Nat.le_of_ble_eq_true rfl) dX10_prepare_50 x1 (fun σ2 eσ2 => ?_)
  have h := h σ2 eσ2
  refine z_iincK X K 2 (lv' := [(3, .int (iz (v3 + (-1)))), (0, .ref (ad 62)), (1, .ref (ad 66))]) dX10_prepare_51 rfl rfl rfl ?_
  refine z_goto (tgt := 11) X dX10_prepare_54 rfl ?_
  exact z_sub [1, 2, 0] rfl (hC11 _ _ h)
set_option maxRecDepth 100000 in
theorem wkc_X10_prepare_49 {Γ : ZG} {l : Launch} {D : va_G} {ds : Nat → ClassId} {ad : Nat → Nat} {post : ZS → Prop} (X : ZX Γ cX10_prepare RX10 2 24) (K : ZCap Γ l (ΘC D ds ad) 4 0 0) (hR : ZRetV Γ cX10_prepare 0 0 post) {C11 : Int × ZS → Prop} (hC11 : ∀ (v3 : Int) (σ : ZS), C11 (v3, σ) → Z Γ 0 0 σ [] 11 [(0, .ref (ad 62)), (1, .ref (ad 66)), (3, .int (iz v3))] []) (v3 : Int) (t0 : Int) (σ : ZS) (h : wc_X10_prepare_49 C11 post v3 t0 σ) : Z Γ 0 0 σ [] 49 [(0, .ref (ad 62)), (1, .ref (ad 66)), (3, .int (iz v3))] [.int (iz t0), .ref (ad 63)] := by
  refine z_iconst X 0 dX10_prepare_49 ?_
  exact z_sub [0, 1, 2] rfl (wkc_X10_prepare_50 X K hR hC11 _ _ _ _ h)
set_option maxRecDepth 100000 in
theorem wkc_X10_prepare_11 {Γ : ZG} {l : Launch} {D : va_G} {ds : Nat → ClassId} {ad : Nat → Nat} {post : ZS → Prop} (X : ZX Γ cX10_prepare RX10 2 24) (K : ZCap Γ l (ΘC D ds ad) 4 0 0) (hR : ZRetV Γ cX10_prepare 0 0 post) : ∀ (N : Nat) (v3 : Int) (σ : ZS), zfix (wbc_X10_prepare_11 post) N (v3, σ) → Z Γ 0 0 σ [] 11 [(0, .ref (ad 62)), (1, .ref (ad 66)), (3, .int (iz v3))] [] := by
  intro N
  induction N with
  | zero => intro v3 σ h; exact False.elim h
  | succ N ih =>
    intro v3 σ h
    have h : wbc_X10_prepare_11 post (zfix (wbc_X10_prepare_11 post) N) (v3, σ) := h
    have hC11 := ih
    clear ih
    generalize zfix (wbc_X10_prepare_11 post) N = C11 at h hC11
    dsimp only [wbc_X10_prepare_11] at h
    refine z_iload_n X 2 dX10_prepare_11 rfl ?_
    obtain ⟨i1, h⟩ := h
    refine z_if_lt X 57 dX10_prepare_12 rfl i1 (fun c2 => ?_) (fun c2 => ?_)
    · have h := h.1 c2
      exact hR _ _ _ _ _ _ dX10_prepare_57 (Nat.le_refl 0) (Nat.le_refl 0) h
    · have h := h.2 c2
      refine z_aload_n X 0 dX10_prepare_15 rfl ?_
      refine gC_X10_9_X10 X K dX10_prepare_16 ?_
      refine z_iload_n X 2 dX10_prepare_19 rfl ?_
      refine z_aload_n X 1 dX10_prepare_20 rfl ?_
      refine z_iload_n X 2 dX10_prepare_21 rfl ?_
      obtain ⟨x3, h⟩ := h
      refine z_aldB' X K 66 (Nat.le_of_ble_eq_true rfl) rfl rfl (Nat.le_of_ble_eq_true rfl) dX10_prepare_22 x3 ?_
      refine z_bipush X 32 dX10_prepare_23 rfl ?_
      obtain ⟨i4, h⟩ := h
      refine z_icmp_lt X 49 dX10_prepare_25 rfl i4 (by decide) (fun c5 => ?_) (fun c5 => ?_)
      · have h := h.1 c5
        exact z_sub [0, 1, 2] rfl (wkc_X10_prepare_49 X K hR hC11 _ _ _ h)
      · have h := h.2 c5
        refine z_aload_n X 1 dX10_prepare_28 rfl ?_
        refine z_iload_n X 2 dX10_prepare_29 rfl ?_
        refine z_aldB' X K 66 (Nat.le_of_ble_eq_true rfl) rfl rfl (Nat.le_of_ble_eq_true rfl) dX10_prepare_30 x3 ?_
        refine z_bipush X 94 dX10_prepare_31 rfl ?_
        refine z_icmp_gt X 49 dX10_prepare_33 rfl i4 (by decide) (fun c6 => ?_) (fun c6 => ?_)
        · have h := h.1 c6
          exact z_sub [0, 1, 2] rfl (wkc_X10_prepare_49 X K hR hC11 _ _ _ h)
        · have h := h.2 c6
          refine z_aload_n X 0 dX10_prepare_36 rfl ?_
          refine gC_X10_9_X10 X K dX10_prepare_37 ?_
          refine z_iload_n X 2 dX10_prepare_40 rfl ?_
          refine z_iconst X 1 dX10_prepare_41 ?_
          refine z_iadd X dX10_prepare_42 ?_
          obtain ⟨x7, h⟩ := h
          refine z_ald' X K 63 (Nat.le_of_ble_eq_true rfl) rfl rfl (Nat.le_of_ble_eq_true rfl) dX10_prepare_43 x7 ?_
          refine z_iconst X 1 dX10_prepare_44 ?_
          refine z_iadd X dX10_prepare_45 ?_
          refine z_goto (tgt := 50) X dX10_prepare_46 rfl ?_
          exact z_sub [0, 1, 2] rfl (wkc_X10_prepare_50 X K hR hC11 _ _ _ _ h)
set_option maxRecDepth 100000 in
theorem mtc_X10_prepare (l : Launch) (D : va_G) (ds : Nat → ClassId) (ad : Nat → Nat) (a1 : Int) (σ : ZS) (post : ZS → Prop) (h : wc_X10_prepare a1 σ post) : ZMetV l (ΘC D ds ad) yX10_prepare cX10_prepare 4 2 24 0 0 [.ref (ad 62), .ref (ad 66), .int (iz a1)] σ post := by
  refine ZMetV.of (by decide) (Nat.le_of_ble_eq_true rfl) (fun Γ X K hR => ?_)
  have X : ZX Γ cX10_prepare RX10 2 24 := X
  refine z_sub [0, 1, 2] (lv' := [(0, .ref (ad 62)), (1, .ref (ad 66)), (2, .int (iz a1))]) rfl ?_
  refine z_aload_n X 0 dX10_prepare_0 rfl ?_
  refine gC_X10_9_X10 X K dX10_prepare_1 ?_
  refine z_iload_n X 2 dX10_prepare_4 rfl ?_
  refine z_iconst X 0 dX10_prepare_5 ?_
  obtain ⟨x1, h⟩ := h
  refine z_ast' X K 63 (Nat.le_of_ble_eq_true rfl) rfl rfl (Nat.le_of_ble_eq_true rfl) dX10_prepare_6 x1 (fun σ2 eσ2 => ?_)
  have h := h σ2 eσ2
  refine z_iload_n X 2 dX10_prepare_7 rfl ?_
  refine z_iconst X 1 dX10_prepare_8 ?_
  refine z_isub X dX10_prepare_9 ?_
  refine z_istore_nK X K (lv' := [(3, .int (iz (a1 - 1))), (0, .ref (ad 62)), (1, .ref (ad 66)), (2, .int (iz a1))]) dX10_prepare_10 rfl rfl ?_
  obtain ⟨N, h⟩ := h
  exact z_sub [1, 2, 0] rfl (wkc_X10_prepare_11 X K hR N _ _ h)
/- X10_open -/
set_option maxRecDepth 100000 in
theorem wkc_X10_open_26 {Γ : ZG} {l : Launch} {D : va_G} {ds : Nat → ClassId} {ad : Nat → Nat} {post : Int → ZS → Prop} (X : ZX Γ cX10_open RX10 2 24) (K : ZCap Γ l (ΘC D ds ad) 3 0 0) (hR : ZRetI Γ cX10_open .int 0 0 post) (σ : ZS) (h : wc_X10_open_26 post σ) : Z Γ 0 0 σ [] 26 [] [] := by
  refine z_ldc X 1000000 q653 rfl dX10_open_26 ?_
  exact hR _ _ _ _ _ _ _ dX10_open_28 rfl (Nat.le_refl 0) (Nat.le_refl 0) h
set_option maxRecDepth 100000 in
theorem mtc_X10_open (l : Launch) (D : va_G) (ds : Nat → ClassId) (ad : Nat → Nat) (a0 : Int) (a1 : Int) (σ : ZS) (post : Int → ZS → Prop) (h : wc_X10_open a0 a1 σ post) : ZMetI l (ΘC D ds ad) yX10_open cX10_open 3 .int 2 24 0 0 [.ref (ad 62), .int (iz a0), .int (iz a1)] σ post := by
  refine ZMetI.of (by decide) (Nat.le_of_ble_eq_true rfl) (fun Γ X K hR => ?_)
  have X : ZX Γ cX10_open RX10 2 24 := X
  refine z_sub [0, 1, 2] (lv' := [(0, .ref (ad 62)), (1, .int (iz a0)), (2, .int (iz a1))]) rfl ?_
  refine z_iload_n X 2 dX10_open_0 rfl ?_
  refine z_iconst X 4 dX10_open_1 ?_
  obtain ⟨i1, h⟩ := h
  obtain ⟨g2, h⟩ := h
  refine z_irem X dX10_open_2 ⟨i1, (by decide), g2, (by decide)⟩ ?_
  obtain ⟨i3, h⟩ := h
  refine z_if_ne X 26 dX10_open_3 rfl i3 (fun c4 => ?_) (fun c4 => ?_)
  · have h := h.1 c4
    exact z_sub [] rfl (wkc_X10_open_26 X K hR _ h)
  · have h := h.2 c4
    refine z_iload_n X 2 dX10_open_6 rfl ?_
    refine z_aload_n X 0 dX10_open_7 rfl ?_
    refine gC_X10_9_X10 X K dX10_open_8 ?_
    refine z_iload_n X 1 dX10_open_11 rfl ?_
    obtain ⟨x5, h⟩ := h
    refine z_ald' X K 63 (Nat.le_of_ble_eq_true rfl) rfl rfl (Nat.le_of_ble_eq_true rfl) dX10_open_12 x5 ?_
    obtain ⟨i6, h⟩ := h
    refine z_icmp_gt X 26 dX10_open_13 rfl i1 i6 (fun c7 => ?_) (fun c7 => ?_)
    · have h := h.1 c7
      exact z_sub [] rfl (wkc_X10_open_26 X K hR _ h)
    · have h := h.2 c7
      refine z_iconst X 1 dX10_open_16 ?_
      refine z_iload_n X 2 dX10_open_17 rfl ?_
      refine z_iconst X 4 dX10_open_18 ?_
      refine z_idiv X dX10_open_19 ⟨i1, (by decide), g2, (by decide)⟩ ?_
      refine z_iconst X 3 dX10_open_20 ?_
      refine z_imul X dX10_open_21 ?_
      refine z_iadd X dX10_open_22 ?_
      refine z_goto (tgt := 28) X dX10_open_23 rfl ?_
      exact hR _ _ _ _ _ _ _ dX10_open_28 rfl (Nat.le_refl 0) (Nat.le_refl 0) h
/- X10_closed -/
set_option maxRecDepth 100000 in
theorem mtc_X10_closed (l : Launch) (D : va_G) (ds : Nat → ClassId) (ad : Nat → Nat) (a0 : Int) (a1 : Int) (σ : ZS) (post : Int → ZS → Prop) (h : wc_X10_closed a0 a1 σ post) : ZMetI l (ΘC D ds ad) yX10_closed cX10_closed 3 .int 2 24 0 0 [.ref (ad 62), .int (iz a0), .int (iz a1)] σ post := by
  refine ZMetI.of (by decide) (Nat.le_of_ble_eq_true rfl) (fun Γ X K hR => ?_)
  have X : ZX Γ cX10_closed RX10 2 24 := X
  refine z_sub [0, 1, 2] (lv' := [(0, .ref (ad 62)), (1, .int (iz a0)), (2, .int (iz a1))]) rfl ?_
  refine z_iload_n X 2 dX10_closed_0 rfl ?_
  refine z_aload_n X 0 dX10_closed_1 rfl ?_
  refine gC_X10_9_X10 X K dX10_closed_2 ?_
  refine z_iload_n X 1 dX10_closed_5 rfl ?_
  obtain ⟨x1, h⟩ := h
  refine z_ald' X K 63 (Nat.le_of_ble_eq_true rfl) rfl rfl (Nat.le_of_ble_eq_true rfl) dX10_closed_6 x1 ?_
  obtain ⟨i2, h⟩ := h
  obtain ⟨i3, h⟩ := h
  refine z_icmp_gt X 27 dX10_closed_7 rfl i2 i3 (fun c4 => ?_) (fun c4 => ?_)
  · have h := h.1 c4
    refine z_ldc X 1000000 q653 rfl dX10_closed_27 ?_
    exact hR _ _ _ _ _ _ _ dX10_closed_29 rfl (Nat.le_refl 0) (Nat.le_refl 0) h
  · have h := h.2 c4
    refine z_iconst X 1 dX10_closed_10 ?_
    refine z_bipush X 6 dX10_closed_11 rfl ?_
    refine z_iload_n X 2 dX10_closed_13 rfl ?_
    refine z_iconst X 1 dX10_closed_14 ?_
    refine z_iadd X dX10_closed_15 ?_
    refine z_imul X dX10_closed_16 ?_
    refine z_bipush X 7 dX10_closed_17 rfl ?_
    refine z_iadd X dX10_closed_19 ?_
    refine z_bipush X 8 dX10_closed_20 rfl ?_
    obtain ⟨i5, h⟩ := h
    obtain ⟨g6, h⟩ := h
    refine z_idiv X dX10_closed_22 ⟨i5, (by decide), g6, (by decide)⟩ ?_
    refine z_iadd X dX10_closed_23 ?_
    refine z_goto (tgt := 29) X dX10_closed_24 rfl ?_
    exact hR _ _ _ _ _ _ _ dX10_closed_29 rfl (Nat.le_refl 0) (Nat.le_refl 0) h
/- X10_leaves -/
set_option maxRecDepth 100000 in
theorem mtc_X10_leaves (l : Launch) (D : va_G) (ds : Nat → ClassId) (ad : Nat → Nat) (σ : ZS) (post : Int → ZS → Prop) (h : wc_X10_leaves  σ post) : ZMetI l (ΘC D ds ad) yX10_leaves cX10_leaves 1 .int 2 24 0 0 [.ref (ad 62)] σ post := by
  refine ZMetI.of (by decide) (Nat.le_of_ble_eq_true rfl) (fun Γ X K hR => ?_)
  have X : ZX Γ cX10_leaves RX10 2 24 := X
  refine z_sub [0] (lv' := [(0, .ref (ad 62))]) rfl ?_
  refine z_iconst X 2 dX10_leaves_0 ?_
  exact hR _ _ _ _ _ _ _ dX10_leaves_1 rfl (Nat.le_refl 0) (Nat.le_refl 0) h
/- X10_add -/
theorem clc_X10_47 {Γ : ZG} {cc : ByteArray} {fr lo nL mc0 ms0 k n pc : Nat} {xs : va_W} {lv : List (Nat × Value)} {st : List Value} {l : Launch} {D : va_G} {ds : Nat → ClassId} {ad : Nat → Nat} {a0 : Int} {σ : ZS} {post : ZS → Prop} (X : ZX Γ cc RX10 fr lo) (K : ZCap Γ l (ΘC D ds ad) nL mc0 ms0) (hrm : zroom 3 45 fr lo = true) (h : wc_X4_put a0 σ post) (hst : (st.map fun v => v.category).sum ≤ 8) (d : decode cc pc = .ok (.invokevirtual 47, 3)) (hcs : k ≤ mc0 ∧ n ≤ ms0) (kk : ∀ (σ' : ZS), post σ' → Z Γ k n σ' xs (pc + 3) lv (st)) : Z Γ k n σ xs pc lv (.int (iz a0) :: .ref (ad 48) :: st) := 
  z_callVV' (C := RX4) (q0 := 48) X K (mtc_X4_put l D ds ad a0 σ post h) (Nat.le_of_ble_eq_true rfl) rfl rfl rfl (lw_V q800 q773 q774 q111 q775) ⟨rfl, by decide, by decide, rfl⟩ (zroom_of (zroom_le hrm (by decide))) ⟨by rw [K.2.2.2.1]; exact hcs.1, by rw [K.2.2.2.2]; exact hcs.2⟩ hst d rfl kk
set_option maxRecDepth 100000 in
theorem mtc_X10_add (l : Launch) (D : va_G) (ds : Nat → ClassId) (ad : Nat → Nat) (a1 : Int) (σ : ZS) (post : ZS → Prop) (h : wc_X10_add a1 σ post) : ZMetV l (ΘC D ds ad) yX10_add cX10_add 3 3 45 0 0 [.ref (ad 62), .ref (ad 48), .int (iz a1)] σ post := by
  refine ZMetV.of (by decide) (Nat.le_of_ble_eq_true rfl) (fun Γ X K hR => ?_)
  have X : ZX Γ cX10_add RX10 3 45 := X
  refine z_sub [0, 1, 2] (lv' := [(0, .ref (ad 62)), (1, .ref (ad 48)), (2, .int (iz a1))]) rfl ?_
  refine z_aload_n X 0 dX10_add_0 rfl ?_
  refine z_aload_n X 0 dX10_add_1 rfl ?_
  refine gC_X10_41_X10 X K dX10_add_2 ?_
  refine z_bipush X 6 dX10_add_5 rfl ?_
  refine z_ishlm X 6 (M := 64) rfl rfl rfl dX10_add_7 ?_
  refine z_iload_n X 2 dX10_add_8 rfl ?_
  refine z_ior X dX10_add_9 ?_
  refine pC_X10_41_X10 X K dX10_add_10 (fun σ1 eσ1 => ?_)
  have h := h σ1 eσ1
  refine z_aload_n X 0 dX10_add_13 rfl ?_
  refine z_dup X dX10_add_14 rfl ?_
  refine gC_X10_44_X10 X K dX10_add_15 ?_
  refine z_bipush X 6 dX10_add_18 rfl ?_
  refine z_iadd X dX10_add_20 ?_
  refine pC_X10_44_X10 X K dX10_add_21 (fun σ2 eσ2 => ?_)
  have h := h σ2 eσ2
  refine z_aload_n X 0 dX10_add_24 rfl ?_
  refine gC_X10_44_X10 X K dX10_add_25 ?_
  refine z_bipush X 8 dX10_add_28 rfl ?_
  obtain ⟨i3, h⟩ := h
  refine z_icmp_ge X 34 dX10_add_30 rfl i3 (by decide) (fun c4 => ?_) (fun c4 => ?_)
  · have h := h.1 c4
    refine z_aload_n X 0 dX10_add_34 rfl ?_
    refine z_dup X dX10_add_35 rfl ?_
    refine gC_X10_44_X10 X K dX10_add_36 ?_
    refine z_bipush X 8 dX10_add_39 rfl ?_
    refine z_isub X dX10_add_41 ?_
    refine pC_X10_44_X10 X K dX10_add_42 (fun σ5 eσ5 => ?_)
    have h := h σ5 eσ5
    refine z_aload_n X 1 dX10_add_45 rfl ?_
    refine z_aload_n X 0 dX10_add_46 rfl ?_
    refine gC_X10_41_X10 X K dX10_add_47 ?_
    refine z_aload_n X 0 dX10_add_50 rfl ?_
    refine gC_X10_44_X10 X K dX10_add_51 ?_
    refine z_ishr X dX10_add_54 ?_
    refine clc_X10_47 X K rfl h (Nat.le_of_ble_eq_true rfl) dX10_add_55 ⟨Nat.zero_le _, Nat.zero_le _⟩ (fun σ6 h => ?_)
    refine z_aload_n X 0 dX10_add_58 rfl ?_
    refine z_dup X dX10_add_59 rfl ?_
    refine gC_X10_41_X10 X K dX10_add_60 ?_
    refine z_iconst X 1 dX10_add_63 ?_
    refine z_aload_n X 0 dX10_add_64 rfl ?_
    refine gC_X10_44_X10 X K dX10_add_65 ?_
    refine z_ishl X dX10_add_68 ?_
    refine z_iconst X 1 dX10_add_69 ?_
    refine z_isub X dX10_add_70 ?_
    refine z_iand X dX10_add_71 ?_
    refine pC_X10_41_X10 X K dX10_add_72 (fun σ7 eσ7 => ?_)
    have h := h σ7 eσ7
    exact hR _ _ _ _ _ _ dX10_add_75 (Nat.le_refl 0) (Nat.le_refl 0) h
  · have h := h.2 c4
    exact hR _ _ _ _ _ _ dX10_add_33 (Nat.le_refl 0) (Nat.le_refl 0) h
/- X10_write -/
theorem clc_X10_50 {Γ : ZG} {cc : ByteArray} {fr lo nL mc0 ms0 k n pc : Nat} {xs : va_W} {lv : List (Nat × Value)} {st : List Value} {l : Launch} {D : va_G} {ds : Nat → ClassId} {ad : Nat → Nat} {a1 : Int} {σ : ZS} {post : ZS → Prop} (X : ZX Γ cc RX10 fr lo) (K : ZCap Γ l (ΘC D ds ad) nL mc0 ms0) (hrm : zroom 4 67 fr lo = true) (h : wc_X10_add a1 σ post) (hst : (st.map fun v => v.category).sum ≤ 8) (d : decode cc pc = .ok (.invokevirtual 50, 3)) (hcs : k ≤ mc0 ∧ n ≤ ms0) (kk : ∀ (σ' : ZS), post σ' → Z Γ k n σ' xs (pc + 3) lv (st)) : Z Γ k n σ xs pc lv (.int (iz a1) :: .ref (ad 48) :: .ref (ad 62) :: st) := 
  z_callVV' (C := RX10) (q0 := 62) X K (mtc_X10_add l D ds ad a1 σ post h) (Nat.le_of_ble_eq_true rfl) rfl rfl rfl (lw_V q796 q798 qs16 q124 q799) ⟨rfl, by decide, by decide, rfl⟩ (zroom_of (zroom_le hrm (by decide))) ⟨by rw [K.2.2.2.1]; exact hcs.1, by rw [K.2.2.2.2]; exact hcs.2⟩ hst d rfl kk
set_option maxRecDepth 100000 in
theorem wkc_X10_write_68 {Γ : ZG} {l : Launch} {D : va_G} {ds : Nat → ClassId} {ad : Nat → Nat} {post : ZS → Prop} (X : ZX Γ cX10_write RX10 4 67) (K : ZCap Γ l (ΘC D ds ad) 7 0 0) (hR : ZRetV Γ cX10_write 0 0 post) (σ : ZS) (h : wc_X10_write_68 post σ) : Z Γ 0 0 σ [] 68 [(0, .ref (ad 62)), (1, .ref (ad 48))] [] := by
  refine z_aload_n X 0 dX10_write_68 rfl ?_
  refine gC_X10_44_X10 X K dX10_write_69 ?_
  obtain ⟨i1, h⟩ := h
  refine z_if_le X 91 dX10_write_72 rfl i1 (fun c2 => ?_) (fun c2 => ?_)
  · have h := h.1 c2
    exact hR _ _ _ _ _ _ dX10_write_91 (Nat.le_refl 0) (Nat.le_refl 0) h
  · have h := h.2 c2
    refine z_aload_n X 1 dX10_write_75 rfl ?_
    refine z_aload_n X 0 dX10_write_76 rfl ?_
    refine gC_X10_41_X10 X K dX10_write_77 ?_
    refine z_bipush X 8 dX10_write_80 rfl ?_
    refine z_aload_n X 0 dX10_write_82 rfl ?_
    refine gC_X10_44_X10 X K dX10_write_83 ?_
    refine z_isub X dX10_write_86 ?_
    refine z_ishl X dX10_write_87 ?_
    refine clc_X10_47 X K rfl h (Nat.le_of_ble_eq_true rfl) dX10_write_88 ⟨Nat.zero_le _, Nat.zero_le _⟩ (fun σ3 h => ?_)
    exact hR _ _ _ _ _ _ dX10_write_91 (Nat.le_refl 0) (Nat.le_refl 0) h
set_option maxRecDepth 100000 in
theorem wkc_X10_write_47 {Γ : ZG} {l : Launch} {D : va_G} {ds : Nat → ClassId} {ad : Nat → Nat} {post : ZS → Prop} (X : ZX Γ cX10_write RX10 4 67) (K : ZCap Γ l (ΘC D ds ad) 7 0 0) (hR : ZRetV Γ cX10_write 0 0 post) {C13 : Int × Int × Int × Int × ZS → Prop} (hC13 : ∀ (v3 : Int) (v4 : Int) (v5 : Int) (v6 : Int) (σ : ZS), C13 (v3, v4, v5, v6, σ) → Z Γ 0 0 σ [] 13 [(0, .ref (ad 62)), (1, .ref (ad 48)), (2, .ref (ad 66)), (3, .int (iz v3)), (4, .int (iz v4)), (5, .int (iz v5)), (6, .int (iz v6))] []) (v3 : Int) (v4 : Int) (v5 : Int) (v6 : Int) (t0 : Int) (σ : ZS) (h : wc_X10_write_47 C13 post v3 v4 v5 v6 t0 σ) : Z Γ 0 0 σ [] 47 [(0, .ref (ad 62)), (1, .ref (ad 48)), (2, .ref (ad 66)), (3, .int (iz v3)), (4, .int (iz v4)), (5, .int (iz v5)), (6, .int (iz v6))] [.int (iz t0), .ref (ad 48), .ref (ad 62)] := by
  refine clc_X10_50 X K rfl h (Nat.le_of_ble_eq_true rfl) dX10_write_47 ⟨Nat.zero_le _, Nat.zero_le _⟩ (fun σ1 h => ?_)
  refine z_iincK X K 6 (lv' := [(6, .int (iz (v6 + 1))), (0, .ref (ad 62)), (1, .ref (ad 48)), (2, .ref (ad 66)), (3, .int (iz v3)), (4, .int (iz v4)), (5, .int (iz v5))]) dX10_write_50 rfl rfl rfl ?_
  refine z_goto (tgt := 13) X dX10_write_53 rfl ?_
  exact z_sub [1, 2, 3, 4, 5, 6, 0] rfl (hC13 _ _ _ _ _ h)
set_option maxRecDepth 100000 in
theorem wkc_X10_write_13 {Γ : ZG} {l : Launch} {D : va_G} {ds : Nat → ClassId} {ad : Nat → Nat} {post : ZS → Prop} (X : ZX Γ cX10_write RX10 4 67) (K : ZCap Γ l (ΘC D ds ad) 7 0 0) (hR : ZRetV Γ cX10_write 0 0 post) : ∀ (N : Nat) (v3 : Int) (v4 : Int) (v5 : Int) (v6 : Int) (σ : ZS), zfix (wbc_X10_write_13 post) N (v3, v4, v5, v6, σ) → Z Γ 0 0 σ [] 13 [(0, .ref (ad 62)), (1, .ref (ad 48)), (2, .ref (ad 66)), (3, .int (iz v3)), (4, .int (iz v4)), (5, .int (iz v5)), (6, .int (iz v6))] [] := by
  intro N
  induction N with
  | zero => intro v3 v4 v5 v6 σ h; exact False.elim h
  | succ N ih =>
    intro v3 v4 v5 v6 σ h
    have h : wbc_X10_write_13 post (zfix (wbc_X10_write_13 post) N) (v3, v4, v5, v6, σ) := h
    have hC13 := ih
    clear ih
    generalize zfix (wbc_X10_write_13 post) N = C13 at h hC13
    dsimp only [wbc_X10_write_13] at h
    refine z_iload X 6 dX10_write_13 rfl ?_
    refine z_iload_n X 3 dX10_write_15 rfl ?_
    refine z_iload X 4 dX10_write_16 rfl ?_
    refine z_iadd X dX10_write_18 ?_
    obtain ⟨i1, h⟩ := h
    obtain ⟨i2, h⟩ := h
    refine z_icmp_ge X 56 dX10_write_19 rfl i1 i2 (fun c3 => ?_) (fun c3 => ?_)
    · have h := h.1 c3
      refine z_iload X 5 dX10_write_56 rfl ?_
      obtain ⟨i4, h⟩ := h
      refine z_if_eq X 68 dX10_write_58 rfl i4 (fun c5 => ?_) (fun c5 => ?_)
      · have h := h.1 c5
        exact z_sub [0, 1] rfl (wkc_X10_write_68 X K hR _ h)
      · have h := h.2 c5
        refine z_aload_n X 0 dX10_write_61 rfl ?_
        refine z_aload_n X 1 dX10_write_62 rfl ?_
        refine z_bipush X 31 dX10_write_63 rfl ?_
        refine clc_X10_50 X K rfl h (Nat.le_of_ble_eq_true rfl) dX10_write_65 ⟨Nat.zero_le _, Nat.zero_le _⟩ (fun σ6 h => ?_)
        exact z_sub [0, 1] rfl (wkc_X10_write_68 X K hR _ h)
    · have h := h.2 c3
      refine z_aload_n X 0 dX10_write_22 rfl ?_
      refine z_aload_n X 1 dX10_write_23 rfl ?_
      refine z_aload_n X 2 dX10_write_24 rfl ?_
      refine z_iload X 6 dX10_write_25 rfl ?_
      obtain ⟨x7, h⟩ := h
      refine z_aldB' X K 66 (Nat.le_of_ble_eq_true rfl) rfl rfl (Nat.le_of_ble_eq_true rfl) dX10_write_27 x7 ?_
      refine z_bipush X 64 dX10_write_28 rfl ?_
      obtain ⟨i8, h⟩ := h
      refine z_icmp_lt X 43 dX10_write_30 rfl i8 (by decide) (fun c9 => ?_) (fun c9 => ?_)
      · have h := h.1 c9
        refine z_aload_n X 2 dX10_write_43 rfl ?_
        refine z_iload X 6 dX10_write_44 rfl ?_
        refine z_aldB' X K 66 (Nat.le_of_ble_eq_true rfl) rfl rfl (Nat.le_of_ble_eq_true rfl) dX10_write_46 x7 ?_
        exact z_sub [0, 1, 2, 3, 4, 5, 6] rfl (wkc_X10_write_47 X K hR hC13 _ _ _ _ _ _ h)
      · have h := h.2 c9
        refine z_aload_n X 2 dX10_write_33 rfl ?_
        refine z_iload X 6 dX10_write_34 rfl ?_
        refine z_aldB' X K 66 (Nat.le_of_ble_eq_true rfl) rfl rfl (Nat.le_of_ble_eq_true rfl) dX10_write_36 x7 ?_
        refine z_bipush X 64 dX10_write_37 rfl ?_
        refine z_isub X dX10_write_39 ?_
        refine z_goto (tgt := 47) X dX10_write_40 rfl ?_
        exact z_sub [0, 1, 2, 3, 4, 5, 6] rfl (wkc_X10_write_47 X K hR hC13 _ _ _ _ _ _ h)
set_option maxRecDepth 100000 in
theorem mtc_X10_write (l : Launch) (D : va_G) (ds : Nat → ClassId) (ad : Nat → Nat) (a2 : Int) (a3 : Int) (a4 : Int) (σ : ZS) (post : ZS → Prop) (h : wc_X10_write a2 a3 a4 σ post) : ZMetV l (ΘC D ds ad) yX10_write cX10_write 7 4 67 0 0 [.ref (ad 62), .ref (ad 48), .ref (ad 66), .int (iz a2), .int (iz a3), .int (iz a4)] σ post := by
  refine ZMetV.of (by decide) (Nat.le_of_ble_eq_true rfl) (fun Γ X K hR => ?_)
  have X : ZX Γ cX10_write RX10 4 67 := X
  refine z_sub [0, 1, 2, 3, 4, 5] (lv' := [(0, .ref (ad 62)), (1, .ref (ad 48)), (2, .ref (ad 66)), (3, .int (iz a2)), (4, .int (iz a3)), (5, .int (iz a4))]) rfl ?_
  refine z_aload_n X 0 dX10_write_0 rfl ?_
  refine z_iconst X 0 dX10_write_1 ?_
  refine pC_X10_41_X10 X K dX10_write_2 (fun σ1 eσ1 => ?_)
  have h := h σ1 eσ1
  refine z_aload_n X 0 dX10_write_5 rfl ?_
  refine z_iconst X 0 dX10_write_6 ?_
  refine pC_X10_44_X10 X K dX10_write_7 (fun σ2 eσ2 => ?_)
  have h := h σ2 eσ2
  refine z_iload_n X 3 dX10_write_10 rfl ?_
  refine z_istoreK X K (lv' := [(6, .int (iz a2)), (0, .ref (ad 62)), (1, .ref (ad 48)), (2, .ref (ad 66)), (3, .int (iz a2)), (4, .int (iz a3)), (5, .int (iz a4))]) dX10_write_11 rfl rfl ?_
  obtain ⟨N, h⟩ := h
  exact z_sub [1, 2, 3, 4, 5, 6, 0] rfl (wkc_X10_write_13 X K hR N _ _ _ _ _ h)
/- X11_mask -/
set_option maxRecDepth 100000 in
theorem mtc_X11_mask (l : Launch) (D : va_G) (ds : Nat → ClassId) (ad : Nat → Nat) (a0 : Int) (σ : ZS) (post : Int → ZS → Prop) (h : wc_X11_mask a0 σ post) : ZMetI l (ΘC D ds ad) yX11_mask cX11_mask 1 .int 2 24 0 0 [.int (iz a0)] σ post := by
  refine ZMetI.of (by decide) (Nat.le_of_ble_eq_true rfl) (fun Γ X K hR => ?_)
  have X : ZX Γ cX11_mask RX11 2 24 := X
  refine z_sub [0] (lv' := [(0, .int (iz a0))]) rfl ?_
  refine z_sipush X 149 dX11_mask_0 rfl ?_
  refine z_iload_n X 0 dX11_mask_3 rfl ?_
  refine z_imul X dX11_mask_4 ?_
  refine z_sipush X 255 dX11_mask_5 rfl ?_
  obtain ⟨i1, h⟩ := h
  obtain ⟨g2, h⟩ := h
  refine z_irem X dX11_mask_8 ⟨i1, (by decide), g2, (by decide)⟩ ?_
  refine z_iconst X 1 dX11_mask_9 ?_
  refine z_iadd X dX11_mask_10 ?_
  exact hR _ _ _ _ _ _ _ dX11_mask_11 rfl (Nat.le_refl 0) (Nat.le_refl 0) h
/- X11_prepare -/
set_option maxRecDepth 100000 in
theorem mtc_X11_prepare (l : Launch) (D : va_G) (ds : Nat → ClassId) (ad : Nat → Nat) (a1 : Int) (σ : ZS) (post : ZS → Prop) (h : wc_X11_prepare a1 σ post) : ZMetV l (ΘC D ds ad) yX11_prepare cX11_prepare 3 2 24 0 0 [.ref (ad 64), .ref (ad 66), .int (iz a1)] σ post := by
  refine ZMetV.of (by decide) (Nat.le_of_ble_eq_true rfl) (fun Γ X K hR => ?_)
  have X : ZX Γ cX11_prepare RX11 2 24 := X
  refine z_sub [0, 1, 2] (lv' := [(0, .ref (ad 64)), (1, .ref (ad 66)), (2, .int (iz a1))]) rfl ?_
  refine z_aload_n X 0 dX11_prepare_0 rfl ?_
  refine z_iload_n X 2 dX11_prepare_1 rfl ?_
  refine pC_X11_35_X11 X K dX11_prepare_2 (fun σ1 eσ1 => ?_)
  have h := h σ1 eσ1
  exact hR _ _ _ _ _ _ dX11_prepare_5 (Nat.le_refl 0) (Nat.le_refl 0) h
/- X11_open -/
set_option maxRecDepth 100000 in
theorem mtc_X11_open (l : Launch) (D : va_G) (ds : Nat → ClassId) (ad : Nat → Nat) (a0 : Int) (a1 : Int) (σ : ZS) (post : Int → ZS → Prop) (h : wc_X11_open a0 a1 σ post) : ZMetI l (ΘC D ds ad) yX11_open cX11_open 3 .int 2 24 0 0 [.ref (ad 64), .int (iz a0), .int (iz a1)] σ post := by
  refine ZMetI.of (by decide) (Nat.le_of_ble_eq_true rfl) (fun Γ X K hR => ?_)
  have X : ZX Γ cX11_open RX11 2 24 := X
  refine z_sub [0, 1, 2] (lv' := [(0, .ref (ad 64)), (1, .int (iz a0)), (2, .int (iz a1))]) rfl ?_
  refine z_iload_n X 1 dX11_open_0 rfl ?_
  refine z_iload_n X 2 dX11_open_1 rfl ?_
  refine z_iadd X dX11_open_2 ?_
  refine z_aload_n X 0 dX11_open_3 rfl ?_
  refine gC_X11_35_X11 X K dX11_open_4 ?_
  obtain ⟨i1, h⟩ := h
  obtain ⟨i2, h⟩ := h
  refine z_icmp_ne X 16 dX11_open_7 rfl i1 i2 (fun c3 => ?_) (fun c3 => ?_)
  · have h := h.1 c3
    refine z_ldc X 1000000 q649 rfl dX11_open_16 ?_
    exact hR _ _ _ _ _ _ _ dX11_open_18 rfl (Nat.le_refl 0) (Nat.le_refl 0) h
  · have h := h.2 c3
    refine z_iconst X 2 dX11_open_10 ?_
    refine z_iload_n X 2 dX11_open_11 rfl ?_
    refine z_iadd X dX11_open_12 ?_
    refine z_goto (tgt := 18) X dX11_open_13 rfl ?_
    exact hR _ _ _ _ _ _ _ dX11_open_18 rfl (Nat.le_refl 0) (Nat.le_refl 0) h
/- X11_closed -/
set_option maxRecDepth 100000 in
theorem mtc_X11_closed (l : Launch) (D : va_G) (ds : Nat → ClassId) (ad : Nat → Nat) (a0 : Int) (a1 : Int) (σ : ZS) (post : Int → ZS → Prop) (h : wc_X11_closed a0 a1 σ post) : ZMetI l (ΘC D ds ad) yX11_closed cX11_closed 3 .int 2 24 0 0 [.ref (ad 64), .int (iz a0), .int (iz a1)] σ post := by
  refine ZMetI.of (by decide) (Nat.le_of_ble_eq_true rfl) (fun Γ X K hR => ?_)
  have X : ZX Γ cX11_closed RX11 2 24 := X
  refine z_sub [0, 1, 2] (lv' := [(0, .ref (ad 64)), (1, .int (iz a0)), (2, .int (iz a1))]) rfl ?_
  refine z_iload_n X 2 dX11_closed_0 rfl ?_
  refine z_sipush X 249 dX11_closed_1 rfl ?_
  obtain ⟨i1, h⟩ := h
  refine z_icmp_gt X 13 dX11_closed_4 rfl i1 (by decide) (fun c2 => ?_) (fun c2 => ?_)
  · have h := h.1 c2
    refine z_iload_n X 2 dX11_closed_13 rfl ?_
    refine z_sipush X 1749 dX11_closed_14 rfl ?_
    refine z_icmp_gt X 26 dX11_closed_17 rfl i1 (by decide) (fun c3 => ?_) (fun c3 => ?_)
    · have h := h.1 c3
      refine z_ldc X 1000000 q649 rfl dX11_closed_26 ?_
      exact hR _ _ _ _ _ _ _ dX11_closed_28 rfl (Nat.le_refl 0) (Nat.le_refl 0) h
    · have h := h.2 c3
      refine z_iconst X 3 dX11_closed_20 ?_
      refine z_iload_n X 2 dX11_closed_21 rfl ?_
      refine z_iadd X dX11_closed_22 ?_
      refine z_goto (tgt := 28) X dX11_closed_23 rfl ?_
      exact hR _ _ _ _ _ _ _ dX11_closed_28 rfl (Nat.le_refl 0) (Nat.le_refl 0) h
  · have h := h.2 c2
    refine z_iconst X 2 dX11_closed_7 ?_
    refine z_iload_n X 2 dX11_closed_8 rfl ?_
    refine z_iadd X dX11_closed_9 ?_
    refine z_goto (tgt := 28) X dX11_closed_10 rfl ?_
    exact hR _ _ _ _ _ _ _ dX11_closed_28 rfl (Nat.le_refl 0) (Nat.le_refl 0) h
/- X11_leaves -/
set_option maxRecDepth 100000 in
theorem mtc_X11_leaves (l : Launch) (D : va_G) (ds : Nat → ClassId) (ad : Nat → Nat) (σ : ZS) (post : Int → ZS → Prop) (h : wc_X11_leaves  σ post) : ZMetI l (ΘC D ds ad) yX11_leaves cX11_leaves 1 .int 2 24 0 0 [.ref (ad 64)] σ post := by
  refine ZMetI.of (by decide) (Nat.le_of_ble_eq_true rfl) (fun Γ X K hR => ?_)
  have X : ZX Γ cX11_leaves RX11 2 24 := X
  refine z_sub [0] (lv' := [(0, .ref (ad 64))]) rfl ?_
  refine z_iconst X 0 dX11_leaves_0 ?_
  exact hR _ _ _ _ _ _ _ dX11_leaves_1 rfl (Nat.le_refl 0) (Nat.le_refl 0) h
/- X11_put -/
theorem clc_X11_19 {Γ : ZG} {cc : ByteArray} {fr lo nL mc0 ms0 k n pc : Nat} {xs : va_W} {lv : List (Nat × Value)} {st : List Value} {l : Launch} {D : va_G} {ds : Nat → ClassId} {ad : Nat → Nat} {a0 : Int} {σ : ZS} {post : Int → ZS → Prop} (X : ZX Γ cc RX11 fr lo) (K : ZCap Γ l (ΘC D ds ad) nL mc0 ms0) (hrm : zroom 3 44 fr lo = true) (h : wc_X11_mask a0 σ post) (hst : (st.map fun v => v.category).sum ≤ 8) (d : decode cc pc = .ok (.invokestatic 19, 3)) (hcs : k ≤ mc0 ∧ n ≤ ms0) (kk : ∀ (r : Int) (σ' : ZS), post r σ' → Z Γ k n σ' xs (pc + 3) lv (.int (iz r) :: st)) : Z Γ k n σ xs pc lv (.int (iz a0) :: st) := 
  z_callSI' X K (mtc_X11_mask l D ds ad a0 σ post h) (lw_S q789 q790 q125 q791) ⟨by decide, by decide, rfl⟩ (zroom_of (zroom_le hrm (by decide))) ⟨by rw [K.2.2.2.1]; exact hcs.1, by rw [K.2.2.2.2]; exact hcs.2⟩ hst d rfl kk
theorem clc_X11_39 {Γ : ZG} {cc : ByteArray} {fr lo nL mc0 ms0 k n pc : Nat} {xs : va_W} {lv : List (Nat × Value)} {st : List Value} {l : Launch} {D : va_G} {ds : Nat → ClassId} {ad : Nat → Nat} {a0 : Int} {σ : ZS} {post : ZS → Prop} (X : ZX Γ cc RX11 fr lo) (K : ZCap Γ l (ΘC D ds ad) nL mc0 ms0) (hrm : zroom 3 45 fr lo = true) (h : wc_X4_put a0 σ post) (hst : (st.map fun v => v.category).sum ≤ 8) (d : decode cc pc = .ok (.invokevirtual 39, 3)) (hcs : k ≤ mc0 ∧ n ≤ ms0) (kk : ∀ (σ' : ZS), post σ' → Z Γ k n σ' xs (pc + 3) lv (st)) : Z Γ k n σ xs pc lv (.int (iz a0) :: .ref (ad 48) :: st) := 
  z_callVV' (C := RX4) (q0 := 48) X K (mtc_X4_put l D ds ad a0 σ post h) (Nat.le_of_ble_eq_true rfl) rfl rfl rfl (lw_V q792 q773 q774 q111 q775) ⟨rfl, by decide, by decide, rfl⟩ (zroom_of (zroom_le hrm (by decide))) ⟨by rw [K.2.2.2.1]; exact hcs.1, by rw [K.2.2.2.2]; exact hcs.2⟩ hst d rfl kk
set_option maxRecDepth 100000 in
theorem mtc_X11_put (l : Launch) (D : va_G) (ds : Nat → ClassId) (ad : Nat → Nat) (a1 : Int) (σ : ZS) (post : ZS → Prop) (h : wc_X11_put a1 σ post) : ZMetV l (ΘC D ds ad) yX11_put cX11_put 2 3 45 0 0 [.ref (ad 48), .int (iz a1)] σ post := by
  refine ZMetV.of (by decide) (Nat.le_of_ble_eq_true rfl) (fun Γ X K hR => ?_)
  have X : ZX Γ cX11_put RX11 3 45 := X
  refine z_sub [0, 1] (lv' := [(0, .ref (ad 48)), (1, .int (iz a1))]) rfl ?_
  refine z_aload_n X 0 dX11_put_0 rfl ?_
  refine z_iload_n X 1 dX11_put_1 rfl ?_
  refine z_aload_n X 0 dX11_put_2 rfl ?_
  refine gC_X11_15_X4 X K (Or.inr rfl) dX11_put_3 ?_
  refine z_iconst X 1 dX11_put_6 ?_
  refine z_iadd X dX11_put_7 ?_
  refine clc_X11_19 X K rfl h (Nat.le_of_ble_eq_true rfl) dX11_put_8 ⟨Nat.zero_le _, Nat.zero_le _⟩ (fun r2 σ1 h => ?_)
  refine z_iadd X dX11_put_11 ?_
  refine z_sipush X 255 dX11_put_12 rfl ?_
  refine z_iandm X 8 (M := 256) rfl rfl rfl dX11_put_15 ?_
  refine clc_X11_39 X K rfl h (Nat.le_of_ble_eq_true rfl) dX11_put_16 ⟨Nat.zero_le _, Nat.zero_le _⟩ (fun σ3 h => ?_)
  exact hR _ _ _ _ _ _ dX11_put_19 (Nat.le_refl 0) (Nat.le_refl 0) h
/- X11_write -/
theorem clc_X11_42 {Γ : ZG} {cc : ByteArray} {fr lo nL mc0 ms0 k n pc : Nat} {xs : va_W} {lv : List (Nat × Value)} {st : List Value} {l : Launch} {D : va_G} {ds : Nat → ClassId} {ad : Nat → Nat} {a1 : Int} {σ : ZS} {post : ZS → Prop} (X : ZX Γ cc RX11 fr lo) (K : ZCap Γ l (ΘC D ds ad) nL mc0 ms0) (hrm : zroom 4 66 fr lo = true) (h : wc_X11_put a1 σ post) (hst : (st.map fun v => v.category).sum ≤ 8) (d : decode cc pc = .ok (.invokestatic 42, 3)) (hcs : k ≤ mc0 ∧ n ≤ ms0) (kk : ∀ (σ' : ZS), post σ' → Z Γ k n σ' xs (pc + 3) lv (st)) : Z Γ k n σ xs pc lv (.int (iz a1) :: .ref (ad 48) :: st) := 
  z_callSV' X K (mtc_X11_put l D ds ad a1 σ post h) (lw_S q786 q787 q125 q788) ⟨by decide, by decide, rfl⟩ (zroom_of (zroom_le hrm (by decide))) ⟨by rw [K.2.2.2.1]; exact hcs.1, by rw [K.2.2.2.2]; exact hcs.2⟩ hst d rfl kk
set_option maxRecDepth 100000 in
theorem wkc_X11_write_57 {Γ : ZG} {l : Launch} {D : va_G} {ds : Nat → ClassId} {ad : Nat → Nat} {post : ZS → Prop} (X : ZX Γ cX11_write RX11 4 66) (K : ZCap Γ l (ΘC D ds ad) 7 0 0) (hR : ZRetV Γ cX11_write 0 0 post) : ∀ (N : Nat) (v3 : Int) (v4 : Int) (v6 : Int) (σ : ZS), zfix (wbc_X11_write_57 post) N (v3, v4, v6, σ) → Z Γ 0 0 σ [] 57 [(1, .ref (ad 48)), (2, .ref (ad 66)), (3, .int (iz v3)), (4, .int (iz v4)), (6, .int (iz v6))] [] := by
  intro N
  induction N with
  | zero => intro v3 v4 v6 σ h; exact False.elim h
  | succ N ih =>
    intro v3 v4 v6 σ h
    have h : wbc_X11_write_57 post (zfix (wbc_X11_write_57 post) N) (v3, v4, v6, σ) := h
    have hC57 := ih
    clear ih
    generalize zfix (wbc_X11_write_57 post) N = C57 at h hC57
    dsimp only [wbc_X11_write_57] at h
    refine z_iload X 4 dX11_write_57 rfl ?_
    refine z_iload_n X 2 dX11_write_59 rfl ?_
    refine z_iload X 3 dX11_write_60 rfl ?_
    refine z_iadd X dX11_write_62 ?_
    obtain ⟨i1, h⟩ := h
    obtain ⟨i2, h⟩ := h
    refine z_icmp_ge X 80 dX11_write_63 rfl i1 i2 (fun c3 => ?_) (fun c3 => ?_)
    · have h := h.1 c3
      exact hR _ _ _ _ _ _ dX11_write_80 (Nat.le_refl 0) (Nat.le_refl 0) h
    · have h := h.2 c3
      refine z_aload_n X 0 dX11_write_66 rfl ?_
      refine z_aload_n X 1 dX11_write_67 rfl ?_
      refine z_iload X 4 dX11_write_68 rfl ?_
      obtain ⟨x4, h⟩ := h
      refine z_aldB' X K 66 (Nat.le_of_ble_eq_true rfl) rfl rfl (Nat.le_of_ble_eq_true rfl) dX11_write_70 x4 ?_
      refine clc_X11_42 X K rfl h (Nat.le_of_ble_eq_true rfl) dX11_write_71 ⟨Nat.zero_le _, Nat.zero_le _⟩ (fun σ5 h => ?_)
      refine z_iincK X K 4 (lv' := [(6, .int (iz (v6 + 1))), (1, .ref (ad 48)), (2, .ref (ad 66)), (3, .int (iz v3)), (4, .int (iz v4))]) dX11_write_74 rfl rfl rfl ?_
      refine z_goto (tgt := 57) X dX11_write_77 rfl ?_
      exact z_sub [1, 2, 3, 4, 0] rfl (hC57 _ _ _ _ h)
set_option maxRecDepth 100000 in
theorem wkc_X11_write_54 {Γ : ZG} {l : Launch} {D : va_G} {ds : Nat → ClassId} {ad : Nat → Nat} {post : ZS → Prop} (X : ZX Γ cX11_write RX11 4 66) (K : ZCap Γ l (ΘC D ds ad) 7 0 0) (hR : ZRetV Γ cX11_write 0 0 post) (v3 : Int) (v4 : Int) (σ : ZS) (h : wc_X11_write_54 post v3 v4 σ) : Z Γ 0 0 σ [] 54 [(1, .ref (ad 48)), (2, .ref (ad 66)), (3, .int (iz v3)), (4, .int (iz v4))] [] := by
  refine z_iload_n X 2 dX11_write_54 rfl ?_
  refine z_istoreK X K (lv' := [(6, .int (iz v3)), (1, .ref (ad 48)), (2, .ref (ad 66)), (3, .int (iz v3)), (4, .int (iz v4))]) dX11_write_55 rfl rfl ?_
  obtain ⟨N, h⟩ := h
  exact z_sub [1, 2, 3, 4, 0] rfl (wkc_X11_write_57 X K hR N _ _ _ _ h)
set_option maxRecDepth 100000 in
theorem mtc_X11_write (l : Launch) (D : va_G) (ds : Nat → ClassId) (ad : Nat → Nat) (a2 : Int) (a3 : Int) (a4 : Int) (σ : ZS) (post : ZS → Prop) (h : wc_X11_write a2 a3 a4 σ post) : ZMetV l (ΘC D ds ad) yX11_write cX11_write 7 4 66 0 0 [.ref (ad 64), .ref (ad 48), .ref (ad 66), .int (iz a2), .int (iz a3), .int (iz a4)] σ post := by
  refine ZMetV.of (by decide) (Nat.le_of_ble_eq_true rfl) (fun Γ X K hR => ?_)
  have X : ZX Γ cX11_write RX11 4 66 := X
  refine z_sub [0, 1, 2, 3, 4, 5] (lv' := [(0, .ref (ad 64)), (1, .ref (ad 48)), (2, .ref (ad 66)), (3, .int (iz a2)), (4, .int (iz a3)), (5, .int (iz a4))]) rfl ?_
  refine z_iload X 5 dX11_write_0 rfl ?_
  obtain ⟨i1, h⟩ := h
  refine z_if_ne X 13 dX11_write_2 rfl i1 (fun c2 => ?_) (fun c2 => ?_)
  · have h := h.1 c2
    refine z_iload X 4 dX11_write_13 rfl ?_
    refine z_sipush X 249 dX11_write_15 rfl ?_
    obtain ⟨i3, h⟩ := h
    refine z_icmp_gt X 30 dX11_write_18 rfl i3 (by decide) (fun c4 => ?_) (fun c4 => ?_)
    · have h := h.1 c4
      refine z_aload_n X 1 dX11_write_30 rfl ?_
      refine z_iload X 4 dX11_write_31 rfl ?_
      refine z_sipush X 250 dX11_write_33 rfl ?_
      obtain ⟨g5, h⟩ := h
      refine z_idiv X dX11_write_36 ⟨i3, (by decide), g5, (by decide)⟩ ?_
      refine z_sipush X 249 dX11_write_37 rfl ?_
      refine z_iadd X dX11_write_40 ?_
      refine clc_X11_42 X K rfl h (Nat.le_of_ble_eq_true rfl) dX11_write_41 ⟨Nat.zero_le _, Nat.zero_le _⟩ (fun σ6 h => ?_)
      refine z_aload_n X 1 dX11_write_44 rfl ?_
      refine z_iload X 4 dX11_write_45 rfl ?_
      refine z_sipush X 250 dX11_write_47 rfl ?_
      refine z_irem X dX11_write_50 ⟨i3, (by decide), g5, (by decide)⟩ ?_
      refine clc_X11_42 X K rfl h (Nat.le_of_ble_eq_true rfl) dX11_write_51 ⟨Nat.zero_le _, Nat.zero_le _⟩ (fun σ7 h => ?_)
      exact z_sub [1, 2, 3, 4] rfl (wkc_X11_write_54 X K hR _ _ _ h)
    · have h := h.2 c4
      refine z_aload_n X 1 dX11_write_21 rfl ?_
      refine z_iload X 4 dX11_write_22 rfl ?_
      refine clc_X11_42 X K rfl h (Nat.le_of_ble_eq_true rfl) dX11_write_24 ⟨Nat.zero_le _, Nat.zero_le _⟩ (fun σ8 h => ?_)
      refine z_goto (tgt := 54) X dX11_write_27 rfl ?_
      exact z_sub [1, 2, 3, 4] rfl (wkc_X11_write_54 X K hR _ _ _ h)
  · have h := h.2 c2
    refine z_aload_n X 1 dX11_write_5 rfl ?_
    refine z_iconst X 0 dX11_write_6 ?_
    refine clc_X11_42 X K rfl h (Nat.le_of_ble_eq_true rfl) dX11_write_7 ⟨Nat.zero_le _, Nat.zero_le _⟩ (fun σ9 h => ?_)
    refine z_goto (tgt := 54) X dX11_write_10 rfl ?_
    exact z_sub [1, 2, 3, 4] rfl (wkc_X11_write_54 X K hR _ _ _ h)
/- X12_isDigit -/
set_option maxRecDepth 100000 in
theorem mtc_X12_isDigit (l : Launch) (D : va_G) (ds : Nat → ClassId) (ad : Nat → Nat) (a0 : Int) (σ : ZS) (post : Int → ZS → Prop) (h : wc_X12_isDigit a0 σ post) : ZMetI l (ΘC D ds ad) yX12_isDigit cX12_isDigit 2 .boolean 2 24 0 0 [.ref (ad 65), .int (iz a0)] σ (fun r σ => (r = 0 ∨ r = 1) ∧ post r σ) := by
  refine ZMetI.of (by decide) (Nat.le_of_ble_eq_true rfl) (fun Γ X K hR => ?_)
  have X : ZX Γ cX12_isDigit RX12 2 24 := X
  refine z_sub [0, 1] (lv' := [(0, .ref (ad 65)), (1, .int (iz a0))]) rfl ?_
  refine z_iload_n X 1 dX12_isDigit_0 rfl ?_
  refine z_aload_n X 0 dX12_isDigit_1 rfl ?_
  refine gC_X12_43_X12 X K dX12_isDigit_2 ?_
  obtain ⟨i1, h⟩ := h
  obtain ⟨i2, h⟩ := h
  refine z_icmp_ge X 34 dX12_isDigit_5 rfl i1 i2 (fun c3 => ?_) (fun c3 => ?_)
  · have h := h.1 c3
    refine z_iconst X 0 dX12_isDigit_34 ?_
    exact hR _ _ _ _ _ _ _ dX12_isDigit_35 (z_nb (Or.inl rfl)) (Nat.le_refl 0) (Nat.le_refl 0) ⟨(Or.inl rfl), h⟩
  · have h := h.2 c3
    refine z_aload_n X 0 dX12_isDigit_8 rfl ?_
    refine gC_X12_9_X12 X K dX12_isDigit_9 ?_
    refine z_iload_n X 1 dX12_isDigit_12 rfl ?_
    obtain ⟨x4, h⟩ := h
    refine z_aldB' X K 66 (Nat.le_of_ble_eq_true rfl) rfl rfl (Nat.le_of_ble_eq_true rfl) dX12_isDigit_13 x4 ?_
    refine z_bipush X 48 dX12_isDigit_14 rfl ?_
    obtain ⟨i5, h⟩ := h
    refine z_icmp_lt X 34 dX12_isDigit_16 rfl i5 (by decide) (fun c6 => ?_) (fun c6 => ?_)
    · have h := h.1 c6
      refine z_iconst X 0 dX12_isDigit_34 ?_
      exact hR _ _ _ _ _ _ _ dX12_isDigit_35 (z_nb (Or.inl rfl)) (Nat.le_refl 0) (Nat.le_refl 0) ⟨(Or.inl rfl), h⟩
    · have h := h.2 c6
      refine z_aload_n X 0 dX12_isDigit_19 rfl ?_
      refine gC_X12_9_X12 X K dX12_isDigit_20 ?_
      refine z_iload_n X 1 dX12_isDigit_23 rfl ?_
      refine z_aldB' X K 66 (Nat.le_of_ble_eq_true rfl) rfl rfl (Nat.le_of_ble_eq_true rfl) dX12_isDigit_24 x4 ?_
      refine z_bipush X 57 dX12_isDigit_25 rfl ?_
      refine z_icmp_gt X 34 dX12_isDigit_27 rfl i5 (by decide) (fun c7 => ?_) (fun c7 => ?_)
      · have h := h.1 c7
        refine z_iconst X 0 dX12_isDigit_34 ?_
        exact hR _ _ _ _ _ _ _ dX12_isDigit_35 (z_nb (Or.inl rfl)) (Nat.le_refl 0) (Nat.le_refl 0) ⟨(Or.inl rfl), h⟩
      · have h := h.2 c7
        refine z_iconst X 1 dX12_isDigit_30 ?_
        refine z_goto (tgt := 35) X dX12_isDigit_31 rfl ?_
        exact hR _ _ _ _ _ _ _ dX12_isDigit_35 (z_nb (Or.inr rfl)) (Nat.le_refl 0) (Nat.le_refl 0) ⟨(Or.inr rfl), h⟩
/- X12_one -/
set_option maxRecDepth 100000 in
theorem mtc_X12_one (l : Launch) (D : va_G) (ds : Nat → ClassId) (ad : Nat → Nat) (a0 : Int) (σ : ZS) (post : Int → ZS → Prop) (h : wc_X12_one a0 σ post) : ZMetI l (ΘC D ds ad) yX12_one cX12_one 2 .int 2 24 0 0 [.ref (ad 65), .int (iz a0)] σ post := by
  refine ZMetI.of (by decide) (Nat.le_of_ble_eq_true rfl) (fun Γ X K hR => ?_)
  have X : ZX Γ cX12_one RX12 2 24 := X
  refine z_sub [0, 1] (lv' := [(0, .ref (ad 65)), (1, .int (iz a0))]) rfl ?_
  refine z_aload_n X 0 dX12_one_0 rfl ?_
  refine gC_X12_9_X12 X K dX12_one_1 ?_
  refine z_iload_n X 1 dX12_one_4 rfl ?_
  obtain ⟨x1, h⟩ := h
  refine z_aldB' X K 66 (Nat.le_of_ble_eq_true rfl) rfl rfl (Nat.le_of_ble_eq_true rfl) dX12_one_5 x1 ?_
  obtain ⟨i2, h⟩ := h
  refine z_if_lt X 13 dX12_one_6 rfl i2 (fun c3 => ?_) (fun c3 => ?_)
  · have h := h.1 c3
    refine z_iconst X 2 dX12_one_13 ?_
    exact hR _ _ _ _ _ _ _ dX12_one_14 rfl (Nat.le_refl 0) (Nat.le_refl 0) h
  · have h := h.2 c3
    refine z_iconst X 1 dX12_one_9 ?_
    refine z_goto (tgt := 14) X dX12_one_10 rfl ?_
    exact hR _ _ _ _ _ _ _ dX12_one_14 rfl (Nat.le_refl 0) (Nat.le_refl 0) h
/- X12_open -/
theorem clc_X12_82_En {Γ : ZG} {cc : ByteArray} {fr lo nL mc0 ms0 k n pc : Nat} {xs : va_W} {lv : List (Nat × Value)} {st : List Value} {l : Launch} {D : va_G} {ds : Nat → ClassId} {ad : Nat → Nat} {a0 : Int} {a1 : Int} {σ : ZS} {post : Int → ZS → Prop} (X : ZX Γ cc RX12 fr lo) (K : ZCap Γ l (ΘC D ds ad) nL mc0 ms0) {o : Nat} (ho : isEn o) (hrm : zroom 3 47 fr lo = true) (h : wv_En_open o a0 a1 σ post) (hst : (st.map fun v => v.category).sum ≤ 8) (d : decode cc pc = .ok (.invokevirtual 82, 3)) (hcs : k ≤ mc0 ∧ n ≤ ms0) (kk : ∀ (r : Int) (σ' : ZS), post r σ' → Z Γ k n σ' xs (pc + 3) lv (.int (iz r) :: st)) : Z Γ k n σ xs pc lv (.int (iz a1) :: .int (iz a0) :: .ref (ad o) :: st) := by
  rcases ho with rfl | rfl | rfl | rfl | rfl
  · exact z_callUI' (C := RX8) (owner := "MatrixPress$Encodation") (q0 := 53) X K (mtc_X8_open l D ds ad 53 a0 a1 σ post (h.1 (Or.inl rfl))) (Nat.le_of_ble_eq_true rfl) rfl rfl rfl (lw_U q683 q685 q692 q658 q118 q660) (va_Decl.abs (X.nw q684 rfl)) ⟨by decide, by decide, rfl⟩ (zroom_of (zroom_le hrm (by decide))) ⟨by rw [K.2.2.2.1]; exact hcs.1, by rw [K.2.2.2.2]; exact hcs.2⟩ hst d rfl kk
  · exact z_callUI' (C := RX8) (owner := "MatrixPress$Encodation") (q0 := 56) X K (mtc_X8_open l D ds ad 56 a0 a1 σ post (h.1 (Or.inr rfl))) (Nat.le_of_ble_eq_true rfl) rfl rfl rfl (lw_U q683 q685 q692 q658 q118 q660) (va_Decl.abs (X.nw q684 rfl)) ⟨by decide, by decide, rfl⟩ (zroom_of (zroom_le hrm (by decide))) ⟨by rw [K.2.2.2.1]; exact hcs.1, by rw [K.2.2.2.2]; exact hcs.2⟩ hst d rfl kk
  · exact z_callUI' (C := RX9) (owner := "MatrixPress$Encodation") (q0 := 59) X K (mtc_X9_open l D ds ad a0 a1 σ post (h.2.1 rfl)) (Nat.le_of_ble_eq_true rfl) rfl rfl rfl (lw_U q683 q685 q693 q666 q123 q668) (va_Decl.abs (X.nw q684 rfl)) ⟨by decide, by decide, rfl⟩ (zroom_of (zroom_le hrm (by decide))) ⟨by rw [K.2.2.2.1]; exact hcs.1, by rw [K.2.2.2.2]; exact hcs.2⟩ hst d rfl kk
  · exact z_callUI' (C := RX10) (owner := "MatrixPress$Encodation") (q0 := 62) X K (mtc_X10_open l D ds ad a0 a1 σ post (h.2.2.1 rfl)) (Nat.le_of_ble_eq_true rfl) rfl rfl rfl (lw_U q683 q685 q689 q690 q124 q691) (va_Decl.abs (X.nw q684 rfl)) ⟨by decide, by decide, rfl⟩ (zroom_of (zroom_le hrm (by decide))) ⟨by rw [K.2.2.2.1]; exact hcs.1, by rw [K.2.2.2.2]; exact hcs.2⟩ hst d rfl kk
  · exact z_callUI' (C := RX11) (owner := "MatrixPress$Encodation") (q0 := 64) X K (mtc_X11_open l D ds ad a0 a1 σ post (h.2.2.2 rfl)) (Nat.le_of_ble_eq_true rfl) rfl rfl rfl (lw_U q683 q685 q686 q687 q125 q688) (va_Decl.abs (X.nw q684 rfl)) ⟨by decide, by decide, rfl⟩ (zroom_of (zroom_le hrm (by decide))) ⟨by rw [K.2.2.2.1]; exact hcs.1, by rw [K.2.2.2.2]; exact hcs.2⟩ hst d rfl kk
theorem clc_X12_85_En {Γ : ZG} {cc : ByteArray} {fr lo nL mc0 ms0 k n pc : Nat} {xs : va_W} {lv : List (Nat × Value)} {st : List Value} {l : Launch} {D : va_G} {ds : Nat → ClassId} {ad : Nat → Nat} {σ : ZS} {post : Int → ZS → Prop} (X : ZX Γ cc RX12 fr lo) (K : ZCap Γ l (ΘC D ds ad) nL mc0 ms0) {o : Nat} (ho : isEn o) (hrm : zroom 3 44 fr lo = true) (h : wv_En_leaves o σ post) (hst : (st.map fun v => v.category).sum ≤ 8) (d : decode cc pc = .ok (.invokevirtual 85, 3)) (hcs : k ≤ mc0 ∧ n ≤ ms0) (kk : ∀ (r : Int) (σ' : ZS), post r σ' → Z Γ k n σ' xs (pc + 3) lv (.int (iz r) :: st)) : Z Γ k n σ xs pc lv (.ref (ad o) :: st) := by
  rcases ho with rfl | rfl | rfl | rfl | rfl
  · exact z_callUI' (C := RX8) (owner := "MatrixPress$Encodation") (q0 := 53) X K (mtc_X7_leaves l D ds ad 53 σ post (h.1 (Or.inl rfl))) (Nat.le_of_ble_eq_true rfl) rfl rfl rfl (lw_U q694 q696 q703 q704 q117 q705) (va_Decl.abs (X.nw q695 rfl)) ⟨by decide, by decide, rfl⟩ (zroom_of (zroom_le hrm (by decide))) ⟨by rw [K.2.2.2.1]; exact hcs.1, by rw [K.2.2.2.2]; exact hcs.2⟩ hst d rfl kk
  · exact z_callUI' (C := RX8) (owner := "MatrixPress$Encodation") (q0 := 56) X K (mtc_X7_leaves l D ds ad 56 σ post (h.1 (Or.inr rfl))) (Nat.le_of_ble_eq_true rfl) rfl rfl rfl (lw_U q694 q696 q703 q704 q117 q705) (va_Decl.abs (X.nw q695 rfl)) ⟨by decide, by decide, rfl⟩ (zroom_of (zroom_le hrm (by decide))) ⟨by rw [K.2.2.2.1]; exact hcs.1, by rw [K.2.2.2.2]; exact hcs.2⟩ hst d rfl kk
  · exact z_callUI' (C := RX9) (owner := "MatrixPress$Encodation") (q0 := 59) X K (mtc_X7_leaves l D ds ad 59 σ post (h.2.1 rfl)) (Nat.le_of_ble_eq_true rfl) rfl rfl rfl (lw_U q694 q696 q706 q704 q117 q705) (va_Decl.abs (X.nw q695 rfl)) ⟨by decide, by decide, rfl⟩ (zroom_of (zroom_le hrm (by decide))) ⟨by rw [K.2.2.2.1]; exact hcs.1, by rw [K.2.2.2.2]; exact hcs.2⟩ hst d rfl kk
  · exact z_callUI' (C := RX10) (owner := "MatrixPress$Encodation") (q0 := 62) X K (mtc_X10_leaves l D ds ad  σ post (h.2.2.1 rfl)) (Nat.le_of_ble_eq_true rfl) rfl rfl rfl (lw_U q694 q696 q700 q701 q124 q702) (va_Decl.abs (X.nw q695 rfl)) ⟨by decide, by decide, rfl⟩ (zroom_of (zroom_le hrm (by decide))) ⟨by rw [K.2.2.2.1]; exact hcs.1, by rw [K.2.2.2.2]; exact hcs.2⟩ hst d rfl kk
  · exact z_callUI' (C := RX11) (owner := "MatrixPress$Encodation") (q0 := 64) X K (mtc_X11_leaves l D ds ad  σ post (h.2.2.2 rfl)) (Nat.le_of_ble_eq_true rfl) rfl rfl rfl (lw_U q694 q696 q697 q698 q125 q699) (va_Decl.abs (X.nw q695 rfl)) ⟨by decide, by decide, rfl⟩ (zroom_of (zroom_le hrm (by decide))) ⟨by rw [K.2.2.2.1]; exact hcs.1, by rw [K.2.2.2.2]; exact hcs.2⟩ hst d rfl kk
set_option maxRecDepth 100000 in
theorem wkc_X12_open_51 {Γ : ZG} {l : Launch} {D : va_G} {ds : Nat → ClassId} {ad : Nat → Nat} {post : Int → ZS → Prop} {q0 : Nat} (X : ZX Γ cX12_open RX12 3 47) (K : ZCap Γ l (ΘC D ds ad) 6 0 0) (hR : ZRetI Γ cX12_open .int 0 0 post) (hq0 : isEn q0) (σ : ZS) (h : wc_X12_open_51 q0 post σ) : Z Γ 0 0 σ [] 51 [] [] := by
  refine z_ldc X 1000000 q641 rfl dX12_open_51 ?_
  refine z_goto (tgt := 66) X dX12_open_53 rfl ?_
  exact hR _ _ _ _ _ _ _ dX12_open_66 rfl (Nat.le_refl 0) (Nat.le_refl 0) h
set_option maxRecDepth 100000 in
theorem mtc_X12_open (l : Launch) (D : va_G) (ds : Nat → ClassId) (ad : Nat → Nat) (q0 : Nat) (a1 : Int) (a2 : Int) (σ : ZS) (post : Int → ZS → Prop) (h : wc_X12_open q0 a1 a2 σ post) : ZMetI l (ΘC D ds ad) yX12_open cX12_open 6 .int 3 47 0 0 [.ref (ad 65), .ref (ad q0), .int (iz a1), .int (iz a2)] σ post := by
  refine ZMetI.of (by decide) (Nat.le_of_ble_eq_true rfl) (fun Γ X K hR => ?_)
  have X : ZX Γ cX12_open RX12 3 47 := X
  refine z_sub [0, 1, 2, 3] (lv' := [(0, .ref (ad 65)), (1, .ref (ad q0)), (2, .int (iz a1)), (3, .int (iz a2))]) rfl ?_
  obtain ⟨hq0, h⟩ := h
  refine z_aload_n X 0 dX12_open_0 rfl ?_
  refine gC_X12_79_X12 X K dX12_open_1 ?_
  refine z_aload_n X 0 dX12_open_4 rfl ?_
  refine gC_X12_19_X12 X K dX12_open_5 ?_
  refine z_iload_n X 2 dX12_open_8 rfl ?_
  obtain ⟨x1, h⟩ := h
  refine z_ald' X K 68 (Nat.le_of_ble_eq_true rfl) rfl rfl (Nat.le_of_ble_eq_true rfl) dX12_open_9 x1 ?_
  refine z_isub X dX12_open_10 ?_
  refine z_aload_n X 1 dX12_open_11 rfl ?_
  refine z_iload_n X 2 dX12_open_12 rfl ?_
  refine z_iload_n X 3 dX12_open_13 rfl ?_
  refine clc_X12_82_En X K hq0 rfl h (Nat.le_of_ble_eq_true rfl) dX12_open_14 ⟨Nat.zero_le _, Nat.zero_le _⟩ (fun r3 σ2 h => ?_)
  refine z_isub X dX12_open_17 ?_
  refine z_topi (fun v4_4 ev4_4 => ?_)
  have h := h v4_4 ev4_4
  refine z_istoreK X K (lv' := [(4, .int (iz v4_4)), (0, .ref (ad 65)), (1, .ref (ad q0)), (2, .int (iz a1)), (3, .int (iz a2))]) dX12_open_18 rfl rfl ?_
  refine z_aload_n X 1 dX12_open_20 rfl ?_
  refine gC_X12_22_X12 X K dX12_open_21 ?_
  refine z_iload_n X 3 dX12_open_24 rfl ?_
  refine z_iload_n X 4 dX12_open_25 rfl ?_
  refine z_iadd X dX12_open_26 ?_
  obtain ⟨x5, h⟩ := h
  refine z_ald' X K 69 (Nat.le_of_ble_eq_true rfl) rfl rfl (Nat.le_of_ble_eq_true rfl) dX12_open_27 x5 ?_
  refine z_topi (fun v5_6 ev5_6 => ?_)
  have h := h v5_6 ev5_6
  refine z_istoreK X K (lv' := [(5, .int (iz v5_6)), (4, .int (iz v4_4)), (0, .ref (ad 65)), (1, .ref (ad q0)), (2, .int (iz a1)), (3, .int (iz a2))]) dX12_open_28 rfl rfl ?_
  refine z_iload X 1 dX12_open_30 rfl ?_
  obtain ⟨i7, h⟩ := h
  refine z_if_lt X 51 dX12_open_32 rfl i7 (fun c8 => ?_) (fun c8 => ?_)
  · have h := h.1 c8
    exact z_sub [] rfl (wkc_X12_open_51 X K hR hq0 _ h)
  · have h := h.2 c8
    refine z_iload X 1 dX12_open_35 rfl ?_
    refine z_aload_n X 3 dX12_open_37 rfl ?_
    refine clc_X12_85_En X K hq0 rfl h (Nat.le_of_ble_eq_true rfl) dX12_open_38 ⟨Nat.zero_le _, Nat.zero_le _⟩ (fun r10 σ9 h => ?_)
    obtain ⟨i11, h⟩ := h
    refine z_icmp_gt X 51 dX12_open_41 rfl i7 i11 (fun c12 => ?_) (fun c12 => ?_)
    · have h := h.1 c12
      exact z_sub [] rfl (wkc_X12_open_51 X K hR hq0 _ h)
    · have h := h.2 c12
      refine z_iload X 0 dX12_open_44 rfl ?_
      refine z_iload X 1 dX12_open_46 rfl ?_
      obtain ⟨i13, h⟩ := h
      refine z_icmp_le X 56 dX12_open_48 rfl i13 i7 (fun c14 => ?_) (fun c14 => ?_)
      · have h := h.1 c14
        refine z_aload_n X 2 dX12_open_56 rfl ?_
        refine gC_X12_79_X12 X K dX12_open_57 ?_
        refine z_iload X 1 dX12_open_60 rfl ?_
        refine z_isub X dX12_open_62 ?_
        refine z_iload X 0 dX12_open_63 rfl ?_
        refine z_iadd X dX12_open_65 ?_
        exact hR _ _ _ _ _ _ _ dX12_open_66 rfl (Nat.le_refl 0) (Nat.le_refl 0) h
      · have h := h.2 c14
        exact z_sub [] rfl (wkc_X12_open_51 X K hR hq0 _ h)
/- X12_leastOpen -/
theorem clc_X12_91 {Γ : ZG} {cc : ByteArray} {fr lo nL mc0 ms0 k n pc : Nat} {xs : va_W} {lv : List (Nat × Value)} {st : List Value} {l : Launch} {D : va_G} {ds : Nat → ClassId} {ad : Nat → Nat} {q0 : Nat} {a1 : Int} {a2 : Int} {σ : ZS} {post : Int → ZS → Prop} (X : ZX Γ cc RX12 fr lo) (K : ZCap Γ l (ΘC D ds ad) nL mc0 ms0) (hrm : zroom 4 72 fr lo = true) (h : wc_X12_open q0 a1 a2 σ post) (hst : (st.map fun v => v.category).sum ≤ 8) (d : decode cc pc = .ok (.invokevirtual 91, 3)) (hcs : k ≤ mc0 ∧ n ≤ ms0) (kk : ∀ (r : Int) (σ' : ZS), post r σ' → Z Γ k n σ' xs (pc + 3) lv (.int (iz r) :: st)) : Z Γ k n σ xs pc lv (.int (iz a2) :: .int (iz a1) :: .ref (ad q0) :: .ref (ad 65) :: st) := 
  z_callVI' (C := RX12) (q0 := 65) X K (mtc_X12_open l D ds ad q0 a1 a2 σ post h) (Nat.le_of_ble_eq_true rfl) rfl rfl rfl (lw_V q679 q681 qs8 q126 q682) ⟨rfl, by decide, by decide, rfl⟩ (zroom_of (zroom_le hrm (by decide))) ⟨by rw [K.2.2.2.1]; exact hcs.1, by rw [K.2.2.2.2]; exact hcs.2⟩ hst d rfl kk
set_option maxRecDepth 100000 in
theorem wkc_X12_leastOpen_30 {Γ : ZG} {l : Launch} {D : va_G} {ds : Nat → ClassId} {ad : Nat → Nat} {post : Int → ZS → Prop} (X : ZX Γ cX12_leastOpen RX12 4 90) (K : ZCap Γ l (ΘC D ds ad) 5 0 0) (hR : ZRetI Γ cX12_leastOpen .int 0 0 post) {C5 : Int × Int × Int × ZS → Prop} (hC5 : ∀ (v1 : Int) (v2 : Int) (v3 : Int) (σ : ZS), C5 (v1, v2, v3, σ) → Z Γ 0 0 σ [] 5 [(0, .ref (ad 65)), (1, .int (iz v1)), (2, .int (iz v2)), (3, .int (iz v3))] []) : ∀ (N : Nat) (v1 : Int) (v2 : Int) (v3 : Int) (v4 : Int) (σ : ZS), zfix (wbc_X12_leastOpen_30 C5 post) N (v1, v2, v3, v4, σ) → Z Γ 0 0 σ [] 30 [(0, .ref (ad 65)), (1, .int (iz v1)), (2, .int (iz v2)), (3, .int (iz v3)), (4, .int (iz v4))] [] := by
  intro N
  induction N with
  | zero => intro v1 v2 v3 v4 σ h; exact False.elim h
  | succ N ih =>
    intro v1 v2 v3 v4 σ h
    have h : wbc_X12_leastOpen_30 C5 post (zfix (wbc_X12_leastOpen_30 C5 post) N) (v1, v2, v3, v4, σ) := h
    have hC30 := ih
    clear ih
    generalize zfix (wbc_X12_leastOpen_30 C5 post) N = C30 at h hC30
    dsimp only [wbc_X12_leastOpen_30] at h
    refine z_iload X 4 dX12_leastOpen_30 rfl ?_
    refine z_aload_n X 0 dX12_leastOpen_32 rfl ?_
    refine gC_X12_43_X12 X K dX12_leastOpen_33 ?_
    refine z_iload_n X 1 dX12_leastOpen_36 rfl ?_
    refine z_isub X dX12_leastOpen_37 ?_
    obtain ⟨i1, h⟩ := h
    obtain ⟨i2, h⟩ := h
    refine z_icmp_gt X 70 dX12_leastOpen_38 rfl i1 i2 (fun c3 => ?_) (fun c3 => ?_)
    · have h := h.1 c3
      refine z_iincK X K 3 (lv' := [(3, .int (iz (v3 + 1))), (0, .ref (ad 65)), (1, .int (iz v1)), (2, .int (iz v2)), (4, .int (iz v4))]) dX12_leastOpen_70 rfl rfl rfl ?_
      refine z_goto (tgt := 5) X dX12_leastOpen_73 rfl ?_
      exact z_sub [1, 2, 3, 0] rfl (hC5 _ _ _ _ h)
    · have h := h.2 c3
      refine z_iload_n X 2 dX12_leastOpen_41 rfl ?_
      refine z_aload_n X 0 dX12_leastOpen_42 rfl ?_
      refine z_aload_n X 0 dX12_leastOpen_43 rfl ?_
      refine gC_X12_36_X12 X K dX12_leastOpen_44 ?_
      refine z_iload_n X 3 dX12_leastOpen_47 rfl ?_
      obtain ⟨x4, h⟩ := h
      obtain ⟨i5, h⟩ := h
      obtain ⟨g6, h⟩ := h
      refine z_enGet q595 X K rfl x4 ⟨i5, g6⟩ (Nat.le_of_ble_eq_true rfl) dX12_leastOpen_48 ⟨Nat.zero_le _, Nat.zero_le _⟩ ?_
      refine z_enCast q609 X K (isEn_c v3) dX12_leastOpen_51 ?_
      refine z_iload_n X 1 dX12_leastOpen_54 rfl ?_
      refine z_iload X 4 dX12_leastOpen_55 rfl ?_
      refine clc_X12_91 X K rfl h (Nat.le_of_ble_eq_true rfl) dX12_leastOpen_57 ⟨Nat.zero_le _, Nat.zero_le _⟩ (fun r8 σ7 h => ?_)
      obtain ⟨i9, h⟩ := h
      obtain ⟨i10, h⟩ := h
      refine z_mmin X q642 q425 q120 q426 rfl (Nat.le_of_ble_eq_true rfl) ⟨Nat.zero_le _, Nat.zero_le _⟩ i9 i10 dX12_leastOpen_60 ?_
      refine z_topi (fun v2_11 ev2_11 => ?_)
      have h := h v2_11 ev2_11
      refine z_istore_nK X K (lv' := [(2, .int (iz v2_11)), (0, .ref (ad 65)), (1, .int (iz v1)), (3, .int (iz v3)), (4, .int (iz v4))]) dX12_leastOpen_63 rfl rfl ?_
      refine z_iincK X K 4 (lv' := [(4, .int (iz (v4 + 1))), (2, .int (iz v2_11)), (0, .ref (ad 65)), (1, .int (iz v1)), (3, .int (iz v3))]) dX12_leastOpen_64 rfl rfl rfl ?_
      refine z_goto (tgt := 30) X dX12_leastOpen_67 rfl ?_
      exact z_sub [2, 3, 1, 4, 0] rfl (hC30 _ _ _ _ _ h)
set_option maxRecDepth 100000 in
theorem wkc_X12_leastOpen_5 {Γ : ZG} {l : Launch} {D : va_G} {ds : Nat → ClassId} {ad : Nat → Nat} {post : Int → ZS → Prop} (X : ZX Γ cX12_leastOpen RX12 4 90) (K : ZCap Γ l (ΘC D ds ad) 5 0 0) (hR : ZRetI Γ cX12_leastOpen .int 0 0 post) : ∀ (N : Nat) (v1 : Int) (v2 : Int) (v3 : Int) (σ : ZS), zfix (wbc_X12_leastOpen_5 post) N (v1, v2, v3, σ) → Z Γ 0 0 σ [] 5 [(0, .ref (ad 65)), (1, .int (iz v1)), (2, .int (iz v2)), (3, .int (iz v3))] [] := by
  intro N
  induction N with
  | zero => intro v1 v2 v3 σ h; exact False.elim h
  | succ N ih =>
    intro v1 v2 v3 σ h
    have h : wbc_X12_leastOpen_5 post (zfix (wbc_X12_leastOpen_5 post) N) (v1, v2, v3, σ) := h
    have hC5 := ih
    clear ih
    generalize zfix (wbc_X12_leastOpen_5 post) N = C5 at h hC5
    dsimp only [wbc_X12_leastOpen_5] at h
    refine z_iload_n X 3 dX12_leastOpen_5 rfl ?_
    refine z_aload_n X 0 dX12_leastOpen_6 rfl ?_
    refine gC_X12_36_X12 X K dX12_leastOpen_7 ?_
    refine z_enSize q591 X K rfl (Nat.le_of_ble_eq_true rfl) dX12_leastOpen_10 ⟨Nat.zero_le _, Nat.zero_le _⟩ ?_
    obtain ⟨i1, h⟩ := h
    obtain ⟨i2, h⟩ := h
    refine z_icmp_ge X 76 dX12_leastOpen_13 rfl i1 i2 (fun c3 => ?_) (fun c3 => ?_)
    · have h := h.1 c3
      refine z_iload_n X 2 dX12_leastOpen_76 rfl ?_
      exact hR _ _ _ _ _ _ _ dX12_leastOpen_77 rfl (Nat.le_refl 0) (Nat.le_refl 0) h
    · have h := h.2 c3
      refine z_iconst X 1 dX12_leastOpen_16 ?_
      refine z_aload_n X 0 dX12_leastOpen_17 rfl ?_
      refine gC_X12_43_X12 X K dX12_leastOpen_18 ?_
      refine z_iload_n X 1 dX12_leastOpen_21 rfl ?_
      refine z_isub X dX12_leastOpen_22 ?_
      refine z_iconst X 4 dX12_leastOpen_23 ?_
      refine z_isub X dX12_leastOpen_24 ?_
      obtain ⟨i4, h⟩ := h
      refine z_mmax X q678 q390 q120 q391 rfl (Nat.le_of_ble_eq_true rfl) ⟨Nat.zero_le _, Nat.zero_le _⟩ (by decide) i4 dX12_leastOpen_25 ?_
      refine z_topi (fun v4_5 ev4_5 => ?_)
      have h := h v4_5 ev4_5
      refine z_istoreK X K (lv' := [(4, .int (iz v4_5)), (0, .ref (ad 65)), (1, .int (iz v1)), (2, .int (iz v2)), (3, .int (iz v3))]) dX12_leastOpen_28 rfl rfl ?_
      obtain ⟨N, h⟩ := h
      exact z_sub [1, 2, 3, 4, 0] rfl (wkc_X12_leastOpen_30 X K hR hC5 N _ _ _ _ _ h)
set_option maxRecDepth 100000 in
theorem mtc_X12_leastOpen (l : Launch) (D : va_G) (ds : Nat → ClassId) (ad : Nat → Nat) (a0 : Int) (σ : ZS) (post : Int → ZS → Prop) (h : wc_X12_leastOpen a0 σ post) : ZMetI l (ΘC D ds ad) yX12_leastOpen cX12_leastOpen 5 .int 4 90 0 0 [.ref (ad 65), .int (iz a0)] σ post := by
  refine ZMetI.of (by decide) (Nat.le_of_ble_eq_true rfl) (fun Γ X K hR => ?_)
  have X : ZX Γ cX12_leastOpen RX12 4 90 := X
  refine z_sub [0, 1] (lv' := [(0, .ref (ad 65)), (1, .int (iz a0))]) rfl ?_
  refine z_ldc X 1000000 q641 rfl dX12_leastOpen_0 ?_
  refine z_istore_nK X K (lv' := [(2, .int (iz 1000000)), (0, .ref (ad 65)), (1, .int (iz a0))]) dX12_leastOpen_2 rfl rfl ?_
  refine z_iconst X 0 dX12_leastOpen_3 ?_
  refine z_istore_nK X K (lv' := [(3, .int (iz 0)), (2, .int (iz 1000000)), (0, .ref (ad 65)), (1, .int (iz a0))]) dX12_leastOpen_4 rfl rfl ?_
  obtain ⟨N, h⟩ := h
  exact z_sub [2, 3, 1, 0] rfl (wkc_X12_leastOpen_5 X K hR N _ _ _ _ h)
/- X12_fits -/
theorem clc_X12_94 {Γ : ZG} {cc : ByteArray} {fr lo nL mc0 ms0 k n pc : Nat} {xs : va_W} {lv : List (Nat × Value)} {st : List Value} {l : Launch} {D : va_G} {ds : Nat → ClassId} {ad : Nat → Nat} {a0 : Int} {σ : ZS} {post : Int → ZS → Prop} (X : ZX Γ cc RX12 fr lo) (K : ZCap Γ l (ΘC D ds ad) nL mc0 ms0) (hrm : zroom 5 114 fr lo = true) (h : wc_X12_leastOpen a0 σ post) (hst : (st.map fun v => v.category).sum ≤ 8) (d : decode cc pc = .ok (.invokevirtual 94, 3)) (hcs : k ≤ mc0 ∧ n ≤ ms0) (kk : ∀ (r : Int) (σ' : ZS), post r σ' → Z Γ k n σ' xs (pc + 3) lv (.int (iz r) :: st)) : Z Γ k n σ xs pc lv (.int (iz a0) :: .ref (ad 65) :: st) := 
  z_callVI' (C := RX12) (q0 := 65) X K (mtc_X12_leastOpen l D ds ad a0 σ post h) (Nat.le_of_ble_eq_true rfl) rfl rfl rfl (lw_V q674 q676 qs7 q126 q677) ⟨rfl, by decide, by decide, rfl⟩ (zroom_of (zroom_le hrm (by decide))) ⟨by rw [K.2.2.2.1]; exact hcs.1, by rw [K.2.2.2.2]; exact hcs.2⟩ hst d rfl kk
set_option maxRecDepth 100000 in
theorem wkc_X12_fits_84 {Γ : ZG} {l : Launch} {D : va_G} {ds : Nat → ClassId} {ad : Nat → Nat} {post : Int → ZS → Prop} (X : ZX Γ cX12_fits RX12 5 114) (K : ZCap Γ l (ΘC D ds ad) 4 0 0) (hR : ZRetI Γ cX12_fits .boolean 0 0 (fun r σ => (r = 0 ∨ r = 1) ∧ post r σ)) (t0 : Int) (σ : ZS) (h : wc_X12_fits_84 post t0 σ) : Z Γ 0 0 σ [] 84 [(0, .ref (ad 65))] [.int (iz t0), .ref (ad 65)] := by
  refine pC_X12_101_X12 X K dX12_fits_84 (fun σ1 eσ1 => ?_)
  have h := h σ1 eσ1
  refine z_aload_n X 0 dX12_fits_87 rfl ?_
  refine gC_X12_101_X12 X K dX12_fits_88 ?_
  refine z_ldc X 1000000 q641 rfl dX12_fits_91 ?_
  obtain ⟨i2, h⟩ := h
  refine z_icmp_ge X 100 dX12_fits_93 rfl i2 (by decide) (fun c3 => ?_) (fun c3 => ?_)
  · have h := h.1 c3
    refine z_iconst X 0 dX12_fits_100 ?_
    exact hR _ _ _ _ _ _ _ dX12_fits_101 (z_nb (Or.inl rfl)) (Nat.le_refl 0) (Nat.le_refl 0) ⟨(Or.inl rfl), h⟩
  · have h := h.2 c3
    refine z_iconst X 1 dX12_fits_96 ?_
    refine z_goto (tgt := 101) X dX12_fits_97 rfl ?_
    exact hR _ _ _ _ _ _ _ dX12_fits_101 (z_nb (Or.inr rfl)) (Nat.le_refl 0) (Nat.le_refl 0) ⟨(Or.inr rfl), h⟩
set_option maxRecDepth 100000 in
theorem wkc_X12_fits_63 {Γ : ZG} {l : Launch} {D : va_G} {ds : Nat → ClassId} {ad : Nat → Nat} {post : Int → ZS → Prop} (X : ZX Γ cX12_fits RX12 5 114) (K : ZCap Γ l (ΘC D ds ad) 4 0 0) (hR : ZRetI Γ cX12_fits .boolean 0 0 (fun r σ => (r = 0 ∨ r = 1) ∧ post r σ)) (v2 : Int) (t0 : Int) (σ : ZS) (h : wc_X12_fits_63 post v2 t0 σ) : Z Γ 0 0 σ [] 63 [(0, .ref (ad 65)), (2, .int (iz v2))] [.int (iz t0), .ref (ad 65)] := by
  obtain ⟨b2, h⟩ := h
  refine pC_X12_97_X12 X K b2 dX12_fits_63 (fun σ1 eσ1 => ?_)
  have h := h σ1 eσ1
  refine z_aload_n X 0 dX12_fits_66 rfl ?_
  refine z_aload_n X 0 dX12_fits_67 rfl ?_
  refine gC_X12_97_X12 X K dX12_fits_68 ?_
  obtain ⟨i3, h⟩ := h
  refine z_if_eq X 83 dX12_fits_71 rfl i3 (fun c4 => ?_) (fun c4 => ?_)
  · have h := h.1 c4
    refine z_iload_n X 1 dX12_fits_83 rfl ?_
    exact z_sub [0] rfl (wkc_X12_fits_84 X K hR _ _ h)
  · have h := h.2 c4
    refine z_aload_n X 0 dX12_fits_74 rfl ?_
    refine gC_X12_15_X12 X K dX12_fits_75 ?_
    refine z_iconst X 0 dX12_fits_78 ?_
    refine z_ald' X K 67 (Nat.le_of_ble_eq_true rfl) rfl rfl (Nat.le_of_ble_eq_true rfl) dX12_fits_79 (by decide) ?_
    refine z_goto (tgt := 84) X dX12_fits_80 rfl ?_
    exact z_sub [0] rfl (wkc_X12_fits_84 X K hR _ _ h)
set_option maxRecDepth 100000 in
theorem wkc_X12_fits_62 {Γ : ZG} {l : Launch} {D : va_G} {ds : Nat → ClassId} {ad : Nat → Nat} {post : Int → ZS → Prop} (X : ZX Γ cX12_fits RX12 5 114) (K : ZCap Γ l (ΘC D ds ad) 4 0 0) (hR : ZRetI Γ cX12_fits .boolean 0 0 (fun r σ => (r = 0 ∨ r = 1) ∧ post r σ)) (v2 : Int) (σ : ZS) (h : wc_X12_fits_62 post v2 σ) : Z Γ 0 0 σ [] 62 [(0, .ref (ad 65)), (2, .int (iz v2))] [.ref (ad 65)] := by
  refine z_iconst X 0 dX12_fits_62 ?_
  exact z_sub [0, 1] rfl (wkc_X12_fits_63 X K hR _ _ _ h)
set_option maxRecDepth 100000 in
theorem wkc_X12_fits_10 {Γ : ZG} {l : Launch} {D : va_G} {ds : Nat → ClassId} {ad : Nat → Nat} {post : Int → ZS → Prop} (X : ZX Γ cX12_fits RX12 5 114) (K : ZCap Γ l (ΘC D ds ad) 4 0 0) (hR : ZRetI Γ cX12_fits .boolean 0 0 (fun r σ => (r = 0 ∨ r = 1) ∧ post r σ)) : ∀ (N : Nat) (v2 : Int) (v3 : Int) (σ : ZS), zfix (wbc_X12_fits_10 post) N (v2, v3, σ) → Z Γ 0 0 σ [] 10 [(0, .ref (ad 65)), (2, .int (iz v2)), (3, .int (iz v3))] [] := by
  intro N
  induction N with
  | zero => intro v2 v3 σ h; exact False.elim h
  | succ N ih =>
    intro v2 v3 σ h
    have h : wbc_X12_fits_10 post (zfix (wbc_X12_fits_10 post) N) (v2, v3, σ) := h
    have hC10 := ih
    clear ih
    generalize zfix (wbc_X12_fits_10 post) N = C10 at h hC10
    dsimp only [wbc_X12_fits_10] at h
    refine z_iload_n X 2 dX12_fits_10 rfl ?_
    refine z_aload_n X 0 dX12_fits_11 rfl ?_
    refine gC_X12_43_X12 X K dX12_fits_12 ?_
    obtain ⟨i1, h⟩ := h
    obtain ⟨i2, h⟩ := h
    refine z_icmp_ge X 34 dX12_fits_15 rfl i1 i2 (fun c3 => ?_) (fun c3 => ?_)
    · have h := h.1 c3
      refine z_aload_n X 0 dX12_fits_34 rfl ?_
      refine z_aload_n X 0 dX12_fits_35 rfl ?_
      refine gC_X12_15_X12 X K dX12_fits_36 ?_
      refine z_iconst X 0 dX12_fits_39 ?_
      refine z_ald' X K 67 (Nat.le_of_ble_eq_true rfl) rfl rfl (Nat.le_of_ble_eq_true rfl) dX12_fits_40 (by decide) ?_
      refine z_aload_n X 0 dX12_fits_41 rfl ?_
      refine gC_X12_79_X12 X K dX12_fits_42 ?_
      obtain ⟨i4, h⟩ := h
      obtain ⟨i5, h⟩ := h
      refine z_icmp_gt X 62 dX12_fits_45 rfl i4 i5 (fun c6 => ?_) (fun c6 => ?_)
      · have h := h.1 c6
        exact z_sub [0, 1] rfl (wkc_X12_fits_62 X K hR _ _ h)
      · have h := h.2 c6
        refine z_aload_n X 0 dX12_fits_48 rfl ?_
        refine gC_X12_15_X12 X K dX12_fits_49 ?_
        refine z_iconst X 0 dX12_fits_52 ?_
        refine z_ald' X K 67 (Nat.le_of_ble_eq_true rfl) rfl rfl (Nat.le_of_ble_eq_true rfl) dX12_fits_53 (by decide) ?_
        refine z_iload_n X 1 dX12_fits_54 rfl ?_
        obtain ⟨i7, h⟩ := h
        refine z_icmp_gt X 62 dX12_fits_55 rfl i4 i7 (fun c8 => ?_) (fun c8 => ?_)
        · have h := h.1 c8
          exact z_sub [0, 1] rfl (wkc_X12_fits_62 X K hR _ _ h)
        · have h := h.2 c8
          refine z_iconst X 1 dX12_fits_58 ?_
          refine z_goto (tgt := 63) X dX12_fits_59 rfl ?_
          exact z_sub [0, 1] rfl (wkc_X12_fits_63 X K hR _ _ _ h)
    · have h := h.2 c3
      refine z_iload_n X 1 dX12_fits_18 rfl ?_
      refine z_aload_n X 0 dX12_fits_19 rfl ?_
      refine z_iload_n X 2 dX12_fits_20 rfl ?_
      refine clc_X12_94 X K rfl h (Nat.le_of_ble_eq_true rfl) dX12_fits_21 ⟨Nat.zero_le _, Nat.zero_le _⟩ (fun r10 σ9 h => ?_)
      obtain ⟨i11, h⟩ := h
      obtain ⟨i12, h⟩ := h
      refine z_mmin X q642 q425 q120 q426 rfl (Nat.le_of_ble_eq_true rfl) ⟨Nat.zero_le _, Nat.zero_le _⟩ i11 i12 dX12_fits_24 ?_
      refine z_topi (fun v2_13 ev2_13 => ?_)
      have h := h v2_13 ev2_13
      refine z_istore_nK X K (lv' := [(2, .int (iz v2_13)), (0, .ref (ad 65)), (3, .int (iz v3))]) dX12_fits_27 rfl rfl ?_
      refine z_iincK X K 2 (lv' := [(3, .int (iz (v3 + 1))), (2, .int (iz v2_13)), (0, .ref (ad 65))]) dX12_fits_28 rfl rfl rfl ?_
      refine z_goto (tgt := 10) X dX12_fits_31 rfl ?_
      exact z_sub [2, 1, 0] rfl (hC10 _ _ _ h)
set_option maxRecDepth 100000 in
theorem mtc_X12_fits (l : Launch) (D : va_G) (ds : Nat → ClassId) (ad : Nat → Nat) (a0 : Int) (σ : ZS) (post : Int → ZS → Prop) (h : wc_X12_fits a0 σ post) : ZMetI l (ΘC D ds ad) yX12_fits cX12_fits 4 .boolean 5 114 0 0 [.ref (ad 65), .int (iz a0)] σ (fun r σ => (r = 0 ∨ r = 1) ∧ post r σ) := by
  refine ZMetI.of (by decide) (Nat.le_of_ble_eq_true rfl) (fun Γ X K hR => ?_)
  have X : ZX Γ cX12_fits RX12 5 114 := X
  refine z_sub [0, 1] (lv' := [(0, .ref (ad 65)), (1, .int (iz a0))]) rfl ?_
  refine z_aload_n X 0 dX12_fits_0 rfl ?_
  refine z_iload_n X 1 dX12_fits_1 rfl ?_
  refine pC_X12_79_X12 X K dX12_fits_2 (fun σ1 eσ1 => ?_)
  have h := h σ1 eσ1
  refine z_ldc X 1000000 q641 rfl dX12_fits_5 ?_
  refine z_istore_nK X K (lv' := [(2, .int (iz 1000000)), (0, .ref (ad 65)), (1, .int (iz a0))]) dX12_fits_7 rfl rfl ?_
  refine z_iconst X 0 dX12_fits_8 ?_
  refine z_istore_nK X K (lv' := [(3, .int (iz 0)), (2, .int (iz 1000000)), (0, .ref (ad 65)), (1, .int (iz a0))]) dX12_fits_9 rfl rfl ?_
  obtain ⟨N, h⟩ := h
  exact z_sub [2, 1, 0] rfl (wkc_X12_fits_10 X K hR N _ _ _ h)
/- X12_goes -/
set_option maxRecDepth 100000 in
theorem mtc_X12_goes (l : Launch) (D : va_G) (ds : Nat → ClassId) (ad : Nat → Nat) (a0 : Int) (a1 : Int) (a2 : Int) (σ : ZS) (post : Int → ZS → Prop) (h : wc_X12_goes a0 a1 a2 σ post) : ZMetI l (ΘC D ds ad) yX12_goes cX12_goes 4 .boolean 2 24 0 0 [.ref (ad 65), .int (iz a0), .int (iz a1), .int (iz a2)] σ (fun r σ => (r = 0 ∨ r = 1) ∧ post r σ) := by
  refine ZMetI.of (by decide) (Nat.le_of_ble_eq_true rfl) (fun Γ X K hR => ?_)
  have X : ZX Γ cX12_goes RX12 2 24 := X
  refine z_sub [0, 1, 2, 3] (lv' := [(0, .ref (ad 65)), (1, .int (iz a0)), (2, .int (iz a1)), (3, .int (iz a2))]) rfl ?_
  refine z_aload_n X 0 dX12_goes_0 rfl ?_
  refine gC_X12_19_X12 X K dX12_goes_1 ?_
  refine z_iload_n X 1 dX12_goes_4 rfl ?_
  obtain ⟨x1, h⟩ := h
  refine z_ald' X K 68 (Nat.le_of_ble_eq_true rfl) rfl rfl (Nat.le_of_ble_eq_true rfl) dX12_goes_5 x1 ?_
  refine z_iload_n X 3 dX12_goes_6 rfl ?_
  refine z_iadd X dX12_goes_7 ?_
  refine z_aload_n X 0 dX12_goes_8 rfl ?_
  refine gC_X12_19_X12 X K dX12_goes_9 ?_
  refine z_iload_n X 1 dX12_goes_12 rfl ?_
  refine z_iload_n X 2 dX12_goes_13 rfl ?_
  refine z_iadd X dX12_goes_14 ?_
  obtain ⟨x2, h⟩ := h
  refine z_ald' X K 68 (Nat.le_of_ble_eq_true rfl) rfl rfl (Nat.le_of_ble_eq_true rfl) dX12_goes_15 x2 ?_
  obtain ⟨i3, h⟩ := h
  obtain ⟨i4, h⟩ := h
  refine z_icmp_ne X 34 dX12_goes_16 rfl i3 i4 (fun c5 => ?_) (fun c5 => ?_)
  · have h := h.1 c5
    refine z_iconst X 0 dX12_goes_34 ?_
    exact hR _ _ _ _ _ _ _ dX12_goes_35 (z_nb (Or.inl rfl)) (Nat.le_refl 0) (Nat.le_refl 0) ⟨(Or.inl rfl), h⟩
  · have h := h.2 c5
    refine z_aload_n X 0 dX12_goes_19 rfl ?_
    refine gC_X12_25_X12 X K dX12_goes_20 ?_
    refine z_iload_n X 1 dX12_goes_23 rfl ?_
    refine z_iload_n X 2 dX12_goes_24 rfl ?_
    refine z_iadd X dX12_goes_25 ?_
    refine z_aldZ' X K 70 (Nat.le_of_ble_eq_true rfl) rfl rfl (Nat.le_of_ble_eq_true rfl) dX12_goes_26 x2 ?_
    obtain ⟨i6, h⟩ := h
    refine z_if_eq X 34 dX12_goes_27 rfl i6 (fun c7 => ?_) (fun c7 => ?_)
    · have h := h.1 c7
      refine z_iconst X 0 dX12_goes_34 ?_
      exact hR _ _ _ _ _ _ _ dX12_goes_35 (z_nb (Or.inl rfl)) (Nat.le_refl 0) (Nat.le_refl 0) ⟨(Or.inl rfl), h⟩
    · have h := h.2 c7
      refine z_iconst X 1 dX12_goes_30 ?_
      refine z_goto (tgt := 35) X dX12_goes_31 rfl ?_
      exact hR _ _ _ _ _ _ _ dX12_goes_35 (z_nb (Or.inr rfl)) (Nat.le_refl 0) (Nat.le_refl 0) ⟨(Or.inr rfl), h⟩
/- X12_may -/
theorem clc_X12_127 {Γ : ZG} {cc : ByteArray} {fr lo nL mc0 ms0 k n pc : Nat} {xs : va_W} {lv : List (Nat × Value)} {st : List Value} {l : Launch} {D : va_G} {ds : Nat → ClassId} {ad : Nat → Nat} {a0 : Int} {a1 : Int} {a2 : Int} {σ : ZS} {post : Int → ZS → Prop} (X : ZX Γ cc RX12 fr lo) (K : ZCap Γ l (ΘC D ds ad) nL mc0 ms0) (hrm : zroom 3 47 fr lo = true) (h : wc_X12_goes a0 a1 a2 σ post) (hst : (st.map fun v => v.category).sum ≤ 8) (d : decode cc pc = .ok (.invokevirtual 127, 3)) (hcs : k ≤ mc0 ∧ n ≤ ms0) (kk : ∀ (r : Int) (σ' : ZS), (fun r σ => (r = 0 ∨ r = 1) ∧ post r σ) r σ' → Z Γ k n σ' xs (pc + 3) lv (.int (iz r) :: st)) : Z Γ k n σ xs pc lv (.int (iz a2) :: .int (iz a1) :: .int (iz a0) :: .ref (ad 65) :: st) := 
  z_callVI' (C := RX12) (q0 := 65) X K (mtc_X12_goes l D ds ad a0 a1 a2 σ post h) (Nat.le_of_ble_eq_true rfl) rfl rfl rfl (lw_V q723 q725 qs10 q126 q726) ⟨rfl, by decide, by decide, rfl⟩ (zroom_of (zroom_le hrm (by decide))) ⟨by rw [K.2.2.2.1]; exact hcs.1, by rw [K.2.2.2.2]; exact hcs.2⟩ hst d rfl kk
set_option maxRecDepth 100000 in
theorem mtc_X12_may (l : Launch) (D : va_G) (ds : Nat → ClassId) (ad : Nat → Nat) (a0 : Int) (a1 : Int) (a2 : Int) (σ : ZS) (post : Int → ZS → Prop) (h : wc_X12_may a0 a1 a2 σ post) : ZMetI l (ΘC D ds ad) yX12_may cX12_may 4 .boolean 3 47 0 0 [.ref (ad 65), .int (iz a0), .int (iz a1), .int (iz a2)] σ (fun r σ => (r = 0 ∨ r = 1) ∧ post r σ) := by
  refine ZMetI.of (by decide) (Nat.le_of_ble_eq_true rfl) (fun Γ X K hR => ?_)
  have X : ZX Γ cX12_may RX12 3 47 := X
  refine z_sub [0, 1, 2, 3] (lv' := [(0, .ref (ad 65)), (1, .int (iz a0)), (2, .int (iz a1)), (3, .int (iz a2))]) rfl ?_
  refine z_aload_n X 0 dX12_may_0 rfl ?_
  refine gC_X12_97_X12 X K dX12_may_1 ?_
  obtain ⟨i1, h⟩ := h
  refine z_if_eq X 34 dX12_may_4 rfl i1 (fun c2 => ?_) (fun c2 => ?_)
  · have h := h.1 c2
    refine z_aload_n X 0 dX12_may_34 rfl ?_
    refine z_iload_n X 1 dX12_may_35 rfl ?_
    refine z_iload_n X 2 dX12_may_36 rfl ?_
    refine z_iload_n X 3 dX12_may_37 rfl ?_
    refine clc_X12_127 X K rfl h (Nat.le_of_ble_eq_true rfl) dX12_may_38 ⟨Nat.zero_le _, Nat.zero_le _⟩ (fun r4 σ3 h => ?_)
    obtain ⟨b4, h⟩ := h
    have h := h b4
    exact hR _ _ _ _ _ _ _ dX12_may_41 (z_nb b4) (Nat.le_refl 0) (Nat.le_refl 0) ⟨b4, h⟩
  · have h := h.2 c2
    refine z_iload_n X 3 dX12_may_7 rfl ?_
    refine z_aload_n X 0 dX12_may_8 rfl ?_
    refine gC_X12_15_X12 X K dX12_may_9 ?_
    refine z_iload_n X 1 dX12_may_12 rfl ?_
    refine z_iload_n X 2 dX12_may_13 rfl ?_
    refine z_iadd X dX12_may_14 ?_
    obtain ⟨x5, h⟩ := h
    refine z_ald' X K 67 (Nat.le_of_ble_eq_true rfl) rfl rfl (Nat.le_of_ble_eq_true rfl) dX12_may_15 x5 ?_
    refine z_iadd X dX12_may_16 ?_
    refine z_aload_n X 0 dX12_may_17 rfl ?_
    refine gC_X12_15_X12 X K dX12_may_18 ?_
    refine z_iload_n X 1 dX12_may_21 rfl ?_
    obtain ⟨x6, h⟩ := h
    refine z_ald' X K 67 (Nat.le_of_ble_eq_true rfl) rfl rfl (Nat.le_of_ble_eq_true rfl) dX12_may_22 x6 ?_
    obtain ⟨i7, h⟩ := h
    obtain ⟨i8, h⟩ := h
    refine z_icmp_ne X 30 dX12_may_23 rfl i7 i8 (fun c9 => ?_) (fun c9 => ?_)
    · have h := h.1 c9
      refine z_iconst X 0 dX12_may_30 ?_
      refine z_goto (tgt := 41) X dX12_may_31 rfl ?_
      exact hR _ _ _ _ _ _ _ dX12_may_41 (z_nb (Or.inl rfl)) (Nat.le_refl 0) (Nat.le_refl 0) ⟨(Or.inl rfl), h⟩
    · have h := h.2 c9
      refine z_iconst X 1 dX12_may_26 ?_
      refine z_goto (tgt := 41) X dX12_may_27 rfl ?_
      exact hR _ _ _ _ _ _ _ dX12_may_41 (z_nb (Or.inr rfl)) (Nat.le_refl 0) (Nat.le_refl 0) ⟨(Or.inr rfl), h⟩
/- X12_leads -/
theorem clc_X12_76_En {Γ : ZG} {cc : ByteArray} {fr lo nL mc0 ms0 k n pc : Nat} {xs : va_W} {lv : List (Nat × Value)} {st : List Value} {l : Launch} {D : va_G} {ds : Nat → ClassId} {ad : Nat → Nat} {a0 : Int} {a1 : Int} {σ : ZS} {post : Int → ZS → Prop} (X : ZX Γ cc RX12 fr lo) (K : ZCap Γ l (ΘC D ds ad) nL mc0 ms0) {o : Nat} (ho : isEn o) (hrm : zroom 4 69 fr lo = true) (h : wv_En_closed o a0 a1 σ post) (hst : (st.map fun v => v.category).sum ≤ 8) (d : decode cc pc = .ok (.invokevirtual 76, 3)) (hcs : k ≤ mc0 ∧ n ≤ ms0) (kk : ∀ (r : Int) (σ' : ZS), post r σ' → Z Γ k n σ' xs (pc + 3) lv (.int (iz r) :: st)) : Z Γ k n σ xs pc lv (.int (iz a1) :: .int (iz a0) :: .ref (ad o) :: st) := by
  rcases ho with rfl | rfl | rfl | rfl | rfl
  · exact z_callUI' (C := RX8) (owner := "MatrixPress$Encodation") (q0 := 53) X K (mtc_X8_closed l D ds ad 53 a0 a1 σ post (h.1 (Or.inl rfl))) (Nat.le_of_ble_eq_true rfl) rfl rfl rfl (lw_U q643 q645 q654 q655 q118 q656) (va_Decl.abs (X.nw q644 rfl)) ⟨by decide, by decide, rfl⟩ (zroom_of (zroom_le hrm (by decide))) ⟨by rw [K.2.2.2.1]; exact hcs.1, by rw [K.2.2.2.2]; exact hcs.2⟩ hst d rfl kk
  · exact z_callUI' (C := RX8) (owner := "MatrixPress$Encodation") (q0 := 56) X K (mtc_X8_closed l D ds ad 56 a0 a1 σ post (h.1 (Or.inr rfl))) (Nat.le_of_ble_eq_true rfl) rfl rfl rfl (lw_U q643 q645 q654 q655 q118 q656) (va_Decl.abs (X.nw q644 rfl)) ⟨by decide, by decide, rfl⟩ (zroom_of (zroom_le hrm (by decide))) ⟨by rw [K.2.2.2.1]; exact hcs.1, by rw [K.2.2.2.2]; exact hcs.2⟩ hst d rfl kk
  · exact z_callUI' (C := RX9) (owner := "MatrixPress$Encodation") (q0 := 59) X K (mtc_X9_closed l D ds ad a0 a1 σ post (h.2.1 rfl)) (Nat.le_of_ble_eq_true rfl) rfl rfl rfl (lw_U q643 q645 q662 q663 q123 q664) (va_Decl.abs (X.nw q644 rfl)) ⟨by decide, by decide, rfl⟩ (zroom_of (zroom_le hrm (by decide))) ⟨by rw [K.2.2.2.1]; exact hcs.1, by rw [K.2.2.2.2]; exact hcs.2⟩ hst d rfl kk
  · exact z_callUI' (C := RX10) (owner := "MatrixPress$Encodation") (q0 := 62) X K (mtc_X10_closed l D ds ad a0 a1 σ post (h.2.2.1 rfl)) (Nat.le_of_ble_eq_true rfl) rfl rfl rfl (lw_U q643 q645 q650 q651 q124 q652) (va_Decl.abs (X.nw q644 rfl)) ⟨by decide, by decide, rfl⟩ (zroom_of (zroom_le hrm (by decide))) ⟨by rw [K.2.2.2.1]; exact hcs.1, by rw [K.2.2.2.2]; exact hcs.2⟩ hst d rfl kk
  · exact z_callUI' (C := RX11) (owner := "MatrixPress$Encodation") (q0 := 64) X K (mtc_X11_closed l D ds ad a0 a1 σ post (h.2.2.2 rfl)) (Nat.le_of_ble_eq_true rfl) rfl rfl rfl (lw_U q643 q645 q646 q647 q125 q648) (va_Decl.abs (X.nw q644 rfl)) ⟨by decide, by decide, rfl⟩ (zroom_of (zroom_le hrm (by decide))) ⟨by rw [K.2.2.2.1]; exact hcs.1, by rw [K.2.2.2.2]; exact hcs.2⟩ hst d rfl kk
theorem clc_X12_65 {Γ : ZG} {cc : ByteArray} {fr lo nL mc0 ms0 k n pc : Nat} {xs : va_W} {lv : List (Nat × Value)} {st : List Value} {l : Launch} {D : va_G} {ds : Nat → ClassId} {ad : Nat → Nat} {a0 : Int} {σ : ZS} {post : Int → ZS → Prop} (X : ZX Γ cc RX12 fr lo) (K : ZCap Γ l (ΘC D ds ad) nL mc0 ms0) (hrm : zroom 3 45 fr lo = true) (h : wc_X12_one a0 σ post) (hst : (st.map fun v => v.category).sum ≤ 8) (d : decode cc pc = .ok (.invokevirtual 65, 3)) (hcs : k ≤ mc0 ∧ n ≤ ms0) (kk : ∀ (r : Int) (σ' : ZS), post r σ' → Z Γ k n σ' xs (pc + 3) lv (.int (iz r) :: st)) : Z Γ k n σ xs pc lv (.int (iz a0) :: .ref (ad 65) :: st) := 
  z_callVI' (C := RX12) (q0 := 65) X K (mtc_X12_one l D ds ad a0 σ post h) (Nat.le_of_ble_eq_true rfl) rfl rfl rfl (lw_V q637 q639 qs6 q126 q640) ⟨rfl, by decide, by decide, rfl⟩ (zroom_of (zroom_le hrm (by decide))) ⟨by rw [K.2.2.2.1]; exact hcs.1, by rw [K.2.2.2.2]; exact hcs.2⟩ hst d rfl kk
theorem clc_X12_61 {Γ : ZG} {cc : ByteArray} {fr lo nL mc0 ms0 k n pc : Nat} {xs : va_W} {lv : List (Nat × Value)} {st : List Value} {l : Launch} {D : va_G} {ds : Nat → ClassId} {ad : Nat → Nat} {a0 : Int} {σ : ZS} {post : Int → ZS → Prop} (X : ZX Γ cc RX12 fr lo) (K : ZCap Γ l (ΘC D ds ad) nL mc0 ms0) (hrm : zroom 3 45 fr lo = true) (h : wc_X12_isDigit a0 σ post) (hst : (st.map fun v => v.category).sum ≤ 8) (d : decode cc pc = .ok (.invokevirtual 61, 3)) (hcs : k ≤ mc0 ∧ n ≤ ms0) (kk : ∀ (r : Int) (σ' : ZS), (fun r σ => (r = 0 ∨ r = 1) ∧ post r σ) r σ' → Z Γ k n σ' xs (pc + 3) lv (.int (iz r) :: st)) : Z Γ k n σ xs pc lv (.int (iz a0) :: .ref (ad 65) :: st) := 
  z_callVI' (C := RX12) (q0 := 65) X K (mtc_X12_isDigit l D ds ad a0 σ post h) (Nat.le_of_ble_eq_true rfl) rfl rfl rfl (lw_V q633 q635 qs5 q126 q636) ⟨rfl, by decide, by decide, rfl⟩ (zroom_of (zroom_le hrm (by decide))) ⟨by rw [K.2.2.2.1]; exact hcs.1, by rw [K.2.2.2.2]; exact hcs.2⟩ hst d rfl kk
set_option maxRecDepth 100000 in
theorem wkc_X12_leads_153 {Γ : ZG} {l : Launch} {D : va_G} {ds : Nat → ClassId} {ad : Nat → Nat} {post : ZS → Prop} (X : ZX Γ cX12_leads RX12 5 114) (K : ZCap Γ l (ΘC D ds ad) 5 0 0) (hR : ZRetV Γ cX12_leads 0 0 post) {C17 : Int × ZS → Prop} (hC17 : ∀ (v1 : Int) (σ : ZS), C17 (v1, σ) → Z Γ 0 0 σ [] 17 [(0, .ref (ad 65)), (1, .int (iz v1))] []) (v1 : Int) (v2 : Int) (σ : ZS) (h : wc_X12_leads_153 C17 post v1 v2 σ) : Z Γ 0 0 σ [] 153 [(0, .ref (ad 65)), (1, .int (iz v1)), (2, .int (iz v2))] [] := by
  refine z_aload_n X 0 dX12_leads_153 rfl ?_
  refine gC_X12_25_X12 X K dX12_leads_154 ?_
  refine z_iload_n X 1 dX12_leads_157 rfl ?_
  refine z_iload_n X 2 dX12_leads_158 rfl ?_
  obtain ⟨x1, h⟩ := h
  obtain ⟨b3, h⟩ := h
  refine z_astZ' X K 70 (Nat.le_of_ble_eq_true rfl) rfl rfl (Nat.le_of_ble_eq_true rfl) dX12_leads_159 x1 b3 (fun σ2 eσ2 => ?_)
  have h := h σ2 eσ2
  refine z_iincK X K 1 (lv' := [(1, .int (iz (v1 + (-1)))), (0, .ref (ad 65)), (2, .int (iz v2))]) dX12_leads_160 rfl rfl rfl ?_
  refine z_goto (tgt := 17) X dX12_leads_163 rfl ?_
  exact z_sub [1, 0] rfl (hC17 _ _ h)
set_option maxRecDepth 100000 in
theorem wkc_X12_leads_101 {Γ : ZG} {l : Launch} {D : va_G} {ds : Nat → ClassId} {ad : Nat → Nat} {post : ZS → Prop} (X : ZX Γ cX12_leads RX12 5 114) (K : ZCap Γ l (ΘC D ds ad) 5 0 0) (hR : ZRetV Γ cX12_leads 0 0 post) {C17 : Int × ZS → Prop} (hC17 : ∀ (v1 : Int) (σ : ZS), C17 (v1, σ) → Z Γ 0 0 σ [] 17 [(0, .ref (ad 65)), (1, .int (iz v1))] []) {C83 : Int × Int × Int × ZS → Prop} (hC83 : ∀ (v1 : Int) (v2 : Int) (v3 : Int) (σ : ZS), C83 (v1, v2, v3, σ) → Z Γ 0 0 σ [] 83 [(0, .ref (ad 65)), (1, .int (iz v1)), (2, .int (iz v2)), (3, .int (iz v3))] []) : ∀ (N : Nat) (v1 : Int) (v2 : Int) (v3 : Int) (v4 : Int) (σ : ZS), zfix (wbc_X12_leads_101 C17 C83 post) N (v1, v2, v3, v4, σ) → Z Γ 0 0 σ [] 101 [(0, .ref (ad 65)), (1, .int (iz v1)), (2, .int (iz v2)), (3, .int (iz v3)), (4, .int (iz v4))] [] := by
  intro N
  induction N with
  | zero => intro v1 v2 v3 v4 σ h; exact False.elim h
  | succ N ih =>
    intro v1 v2 v3 v4 σ h
    have h : wbc_X12_leads_101 C17 C83 post (zfix (wbc_X12_leads_101 C17 C83 post) N) (v1, v2, v3, v4, σ) := h
    have hC101 := ih
    clear ih
    generalize zfix (wbc_X12_leads_101 C17 C83 post) N = C101 at h hC101
    dsimp only [wbc_X12_leads_101] at h
    refine z_iload X 4 dX12_leads_101 rfl ?_
    refine z_aload_n X 0 dX12_leads_103 rfl ?_
    refine gC_X12_43_X12 X K dX12_leads_104 ?_
    refine z_iload_n X 1 dX12_leads_107 rfl ?_
    refine z_isub X dX12_leads_108 ?_
    obtain ⟨i1, h⟩ := h
    obtain ⟨i2, h⟩ := h
    refine z_icmp_gt X 147 dX12_leads_109 rfl i1 i2 (fun c3 => ?_) (fun c3 => ?_)
    · have h := h.1 c3
      refine z_iincK X K 3 (lv' := [(3, .int (iz (v3 + 1))), (0, .ref (ad 65)), (1, .int (iz v1)), (2, .int (iz v2)), (4, .int (iz v4))]) dX12_leads_147 rfl rfl rfl ?_
      refine z_goto (tgt := 83) X dX12_leads_150 rfl ?_
      exact z_sub [1, 2, 3, 0] rfl (hC83 _ _ _ _ h)
    · have h := h.2 c3
      refine z_iload_n X 2 dX12_leads_112 rfl ?_
      obtain ⟨i4, h⟩ := h
      refine z_if_ne X 147 dX12_leads_113 rfl i4 (fun c5 => ?_) (fun c5 => ?_)
      · have h := h.1 c5
        refine z_iincK X K 3 (lv' := [(3, .int (iz (v3 + 1))), (0, .ref (ad 65)), (1, .int (iz v1)), (2, .int (iz v2)), (4, .int (iz v4))]) dX12_leads_147 rfl rfl rfl ?_
        refine z_goto (tgt := 83) X dX12_leads_150 rfl ?_
        exact z_sub [1, 2, 3, 0] rfl (hC83 _ _ _ _ h)
      · have h := h.2 c5
        refine z_aload_n X 0 dX12_leads_116 rfl ?_
        refine z_iload_n X 1 dX12_leads_117 rfl ?_
        refine z_iload X 4 dX12_leads_118 rfl ?_
        refine z_aload_n X 0 dX12_leads_120 rfl ?_
        refine gC_X12_36_X12 X K dX12_leads_121 ?_
        refine z_iload_n X 3 dX12_leads_124 rfl ?_
        obtain ⟨x6, h⟩ := h
        obtain ⟨i7, h⟩ := h
        obtain ⟨g8, h⟩ := h
        refine z_enGet q595 X K rfl x6 ⟨i7, g8⟩ (Nat.le_of_ble_eq_true rfl) dX12_leads_125 ⟨Nat.zero_le _, Nat.zero_le _⟩ ?_
        refine z_enCast q609 X K (isEn_c v3) dX12_leads_128 ?_
        refine z_iload_n X 1 dX12_leads_131 rfl ?_
        refine z_iload X 4 dX12_leads_132 rfl ?_
        refine clc_X12_76_En X K (isEn_c v3) rfl h (Nat.le_of_ble_eq_true rfl) dX12_leads_134 ⟨Nat.zero_le _, Nat.zero_le _⟩ (fun r10 σ9 h => ?_)
        refine clc_X12_127 X K rfl h (Nat.le_of_ble_eq_true rfl) dX12_leads_137 ⟨Nat.zero_le _, Nat.zero_le _⟩ (fun r12 σ11 h => ?_)
        obtain ⟨b12, h⟩ := h
        have h := h b12
        refine z_istore_nK X K (lv' := [(2, .int (iz r12)), (0, .ref (ad 65)), (1, .int (iz v1)), (3, .int (iz v3)), (4, .int (iz v4))]) dX12_leads_140 rfl rfl ?_
        refine z_iincK X K 4 (lv' := [(4, .int (iz (v4 + 1))), (2, .int (iz r12)), (0, .ref (ad 65)), (1, .int (iz v1)), (3, .int (iz v3))]) dX12_leads_141 rfl rfl rfl ?_
        refine z_goto (tgt := 101) X dX12_leads_144 rfl ?_
        exact z_sub [2, 3, 1, 4, 0] rfl (hC101 _ _ _ _ _ h)
set_option maxRecDepth 100000 in
theorem wkc_X12_leads_83 {Γ : ZG} {l : Launch} {D : va_G} {ds : Nat → ClassId} {ad : Nat → Nat} {post : ZS → Prop} (X : ZX Γ cX12_leads RX12 5 114) (K : ZCap Γ l (ΘC D ds ad) 5 0 0) (hR : ZRetV Γ cX12_leads 0 0 post) {C17 : Int × ZS → Prop} (hC17 : ∀ (v1 : Int) (σ : ZS), C17 (v1, σ) → Z Γ 0 0 σ [] 17 [(0, .ref (ad 65)), (1, .int (iz v1))] []) : ∀ (N : Nat) (v1 : Int) (v2 : Int) (v3 : Int) (σ : ZS), zfix (wbc_X12_leads_83 C17 post) N (v1, v2, v3, σ) → Z Γ 0 0 σ [] 83 [(0, .ref (ad 65)), (1, .int (iz v1)), (2, .int (iz v2)), (3, .int (iz v3))] [] := by
  intro N
  induction N with
  | zero => intro v1 v2 v3 σ h; exact False.elim h
  | succ N ih =>
    intro v1 v2 v3 σ h
    have h : wbc_X12_leads_83 C17 post (zfix (wbc_X12_leads_83 C17 post) N) (v1, v2, v3, σ) := h
    have hC83 := ih
    clear ih
    generalize zfix (wbc_X12_leads_83 C17 post) N = C83 at h hC83
    dsimp only [wbc_X12_leads_83] at h
    refine z_iload_n X 3 dX12_leads_83 rfl ?_
    refine z_aload_n X 0 dX12_leads_84 rfl ?_
    refine gC_X12_36_X12 X K dX12_leads_85 ?_
    refine z_enSize q591 X K rfl (Nat.le_of_ble_eq_true rfl) dX12_leads_88 ⟨Nat.zero_le _, Nat.zero_le _⟩ ?_
    obtain ⟨i1, h⟩ := h
    obtain ⟨i2, h⟩ := h
    refine z_icmp_ge X 153 dX12_leads_91 rfl i1 i2 (fun c3 => ?_) (fun c3 => ?_)
    · have h := h.1 c3
      exact z_sub [0, 1, 2] rfl (wkc_X12_leads_153 X K hR hC17 _ _ _ h)
    · have h := h.2 c3
      refine z_iload_n X 2 dX12_leads_94 rfl ?_
      obtain ⟨i4, h⟩ := h
      refine z_if_ne X 153 dX12_leads_95 rfl i4 (fun c5 => ?_) (fun c5 => ?_)
      · have h := h.1 c5
        exact z_sub [0, 1, 2] rfl (wkc_X12_leads_153 X K hR hC17 _ _ _ h)
      · have h := h.2 c5
        refine z_iconst X 1 dX12_leads_98 ?_
        refine z_istoreK X K (lv' := [(4, .int (iz 1)), (0, .ref (ad 65)), (1, .int (iz v1)), (2, .int (iz v2)), (3, .int (iz v3))]) dX12_leads_99 rfl rfl ?_
        obtain ⟨N, h⟩ := h
        exact z_sub [1, 2, 3, 4, 0] rfl (wkc_X12_leads_101 X K hR hC17 hC83 N _ _ _ _ _ h)
set_option maxRecDepth 100000 in
theorem wkc_X12_leads_80 {Γ : ZG} {l : Launch} {D : va_G} {ds : Nat → ClassId} {ad : Nat → Nat} {post : ZS → Prop} (X : ZX Γ cX12_leads RX12 5 114) (K : ZCap Γ l (ΘC D ds ad) 5 0 0) (hR : ZRetV Γ cX12_leads 0 0 post) {C17 : Int × ZS → Prop} (hC17 : ∀ (v1 : Int) (σ : ZS), C17 (v1, σ) → Z Γ 0 0 σ [] 17 [(0, .ref (ad 65)), (1, .int (iz v1))] []) (v1 : Int) (t0 : Int) (σ : ZS) (h : wc_X12_leads_80 C17 post v1 t0 σ) : Z Γ 0 0 σ [] 80 [(0, .ref (ad 65)), (1, .int (iz v1))] [.int (iz t0)] := by
  refine z_istore_nK X K (lv' := [(2, .int (iz t0)), (0, .ref (ad 65)), (1, .int (iz v1))]) dX12_leads_80 rfl rfl ?_
  refine z_iconst X 0 dX12_leads_81 ?_
  refine z_istore_nK X K (lv' := [(3, .int (iz 0)), (2, .int (iz t0)), (0, .ref (ad 65)), (1, .int (iz v1))]) dX12_leads_82 rfl rfl ?_
  obtain ⟨N, h⟩ := h
  exact z_sub [2, 3, 1, 0] rfl (wkc_X12_leads_83 X K hR hC17 N _ _ _ _ h)
set_option maxRecDepth 100000 in
theorem wkc_X12_leads_79 {Γ : ZG} {l : Launch} {D : va_G} {ds : Nat → ClassId} {ad : Nat → Nat} {post : ZS → Prop} (X : ZX Γ cX12_leads RX12 5 114) (K : ZCap Γ l (ΘC D ds ad) 5 0 0) (hR : ZRetV Γ cX12_leads 0 0 post) {C17 : Int × ZS → Prop} (hC17 : ∀ (v1 : Int) (σ : ZS), C17 (v1, σ) → Z Γ 0 0 σ [] 17 [(0, .ref (ad 65)), (1, .int (iz v1))] []) (v1 : Int) (σ : ZS) (h : wc_X12_leads_79 C17 post v1 σ) : Z Γ 0 0 σ [] 79 [(0, .ref (ad 65)), (1, .int (iz v1))] [] := by
  refine z_iconst X 0 dX12_leads_79 ?_
  exact z_sub [0, 1] rfl (wkc_X12_leads_80 X K hR hC17 _ _ _ h)
set_option maxRecDepth 100000 in
theorem wkc_X12_leads_17 {Γ : ZG} {l : Launch} {D : va_G} {ds : Nat → ClassId} {ad : Nat → Nat} {post : ZS → Prop} (X : ZX Γ cX12_leads RX12 5 114) (K : ZCap Γ l (ΘC D ds ad) 5 0 0) (hR : ZRetV Γ cX12_leads 0 0 post) : ∀ (N : Nat) (v1 : Int) (σ : ZS), zfix (wbc_X12_leads_17 post) N (v1, σ) → Z Γ 0 0 σ [] 17 [(0, .ref (ad 65)), (1, .int (iz v1))] [] := by
  intro N
  induction N with
  | zero => intro v1 σ h; exact False.elim h
  | succ N ih =>
    intro v1 σ h
    have h : wbc_X12_leads_17 post (zfix (wbc_X12_leads_17 post) N) (v1, σ) := h
    have hC17 := ih
    clear ih
    generalize zfix (wbc_X12_leads_17 post) N = C17 at h hC17
    dsimp only [wbc_X12_leads_17] at h
    refine z_iload_n X 1 dX12_leads_17 rfl ?_
    obtain ⟨i1, h⟩ := h
    refine z_if_lt X 166 dX12_leads_18 rfl i1 (fun c2 => ?_) (fun c2 => ?_)
    · have h := h.1 c2
      exact hR _ _ _ _ _ _ dX12_leads_166 (Nat.le_refl 0) (Nat.le_refl 0) h
    · have h := h.2 c2
      refine z_aload_n X 0 dX12_leads_21 rfl ?_
      refine z_iload_n X 1 dX12_leads_22 rfl ?_
      refine clc_X12_94 X K rfl h (Nat.le_of_ble_eq_true rfl) dX12_leads_23 ⟨Nat.zero_le _, Nat.zero_le _⟩ (fun r4 σ3 h => ?_)
      refine z_aload_n X 0 dX12_leads_26 rfl ?_
      refine gC_X12_101_X12 X K dX12_leads_27 ?_
      obtain ⟨i5, h⟩ := h
      obtain ⟨i6, h⟩ := h
      refine z_icmp_eq X 75 dX12_leads_30 rfl i5 i6 (fun c7 => ?_) (fun c7 => ?_)
      · have h := h.1 c7
        refine z_iconst X 1 dX12_leads_75 ?_
        refine z_goto (tgt := 80) X dX12_leads_76 rfl ?_
        exact z_sub [0, 1] rfl (wkc_X12_leads_80 X K hR hC17 _ _ _ h)
      · have h := h.2 c7
        refine z_aload_n X 0 dX12_leads_33 rfl ?_
        refine z_iload_n X 1 dX12_leads_34 rfl ?_
        refine z_iconst X 1 dX12_leads_35 ?_
        refine z_aload_n X 0 dX12_leads_36 rfl ?_
        refine z_iload_n X 1 dX12_leads_37 rfl ?_
        refine clc_X12_65 X K rfl h (Nat.le_of_ble_eq_true rfl) dX12_leads_38 ⟨Nat.zero_le _, Nat.zero_le _⟩ (fun r9 σ8 h => ?_)
        refine clc_X12_127 X K rfl h (Nat.le_of_ble_eq_true rfl) dX12_leads_41 ⟨Nat.zero_le _, Nat.zero_le _⟩ (fun r11 σ10 h => ?_)
        obtain ⟨b11, h⟩ := h
        have h := h b11
        refine z_if_ne X 75 dX12_leads_44 rfl (InR_b b11) (fun c12 => ?_) (fun c12 => ?_)
        · have h := h.1 c12
          refine z_iconst X 1 dX12_leads_75 ?_
          refine z_goto (tgt := 80) X dX12_leads_76 rfl ?_
          exact z_sub [0, 1] rfl (wkc_X12_leads_80 X K hR hC17 _ _ _ h)
        · have h := h.2 c12
          refine z_aload_n X 0 dX12_leads_47 rfl ?_
          refine z_iload_n X 1 dX12_leads_48 rfl ?_
          refine clc_X12_61 X K rfl h (Nat.le_of_ble_eq_true rfl) dX12_leads_49 ⟨Nat.zero_le _, Nat.zero_le _⟩ (fun r14 σ13 h => ?_)
          obtain ⟨b14, h⟩ := h
          have h := h b14
          refine z_if_eq X 79 dX12_leads_52 rfl (InR_b b14) (fun c15 => ?_) (fun c15 => ?_)
          · have h := h.1 c15
            exact z_sub [0, 1] rfl (wkc_X12_leads_79 X K hR hC17 _ _ h)
          · have h := h.2 c15
            refine z_aload_n X 0 dX12_leads_55 rfl ?_
            refine z_iload_n X 1 dX12_leads_56 rfl ?_
            refine z_iconst X 1 dX12_leads_57 ?_
            refine z_iadd X dX12_leads_58 ?_
            refine clc_X12_61 X K rfl h (Nat.le_of_ble_eq_true rfl) dX12_leads_59 ⟨Nat.zero_le _, Nat.zero_le _⟩ (fun r17 σ16 h => ?_)
            obtain ⟨b17, h⟩ := h
            have h := h b17
            refine z_if_eq X 79 dX12_leads_62 rfl (InR_b b17) (fun c18 => ?_) (fun c18 => ?_)
            · have h := h.1 c18
              exact z_sub [0, 1] rfl (wkc_X12_leads_79 X K hR hC17 _ _ h)
            · have h := h.2 c18
              refine z_aload_n X 0 dX12_leads_65 rfl ?_
              refine z_iload_n X 1 dX12_leads_66 rfl ?_
              refine z_iconst X 2 dX12_leads_67 ?_
              refine z_iconst X 1 dX12_leads_68 ?_
              refine clc_X12_127 X K rfl h (Nat.le_of_ble_eq_true rfl) dX12_leads_69 ⟨Nat.zero_le _, Nat.zero_le _⟩ (fun r20 σ19 h => ?_)
              obtain ⟨b20, h⟩ := h
              have h := h b20
              refine z_if_eq X 79 dX12_leads_72 rfl (InR_b b20) (fun c21 => ?_) (fun c21 => ?_)
              · have h := h.1 c21
                exact z_sub [0, 1] rfl (wkc_X12_leads_79 X K hR hC17 _ _ h)
              · have h := h.2 c21
                refine z_iconst X 1 dX12_leads_75 ?_
                refine z_goto (tgt := 80) X dX12_leads_76 rfl ?_
                exact z_sub [0, 1] rfl (wkc_X12_leads_80 X K hR hC17 _ _ _ h)
set_option maxRecDepth 100000 in
theorem mtc_X12_leads (l : Launch) (D : va_G) (ds : Nat → ClassId) (ad : Nat → Nat) (σ : ZS) (post : ZS → Prop) (h : wc_X12_leads  σ post) : ZMetV l (ΘC D ds ad) yX12_leads cX12_leads 5 5 114 0 0 [.ref (ad 65)] σ post := by
  refine ZMetV.of (by decide) (Nat.le_of_ble_eq_true rfl) (fun Γ X K hR => ?_)
  have X : ZX Γ cX12_leads RX12 5 114 := X
  refine z_sub [0] (lv' := [(0, .ref (ad 65))]) rfl ?_
  refine z_aload_n X 0 dX12_leads_0 rfl ?_
  refine gC_X12_25_X12 X K dX12_leads_1 ?_
  refine z_aload_n X 0 dX12_leads_4 rfl ?_
  refine gC_X12_43_X12 X K dX12_leads_5 ?_
  refine z_iconst X 0 dX12_leads_8 ?_
  obtain ⟨x1, h⟩ := h
  refine z_astZ' X K 70 (Nat.le_of_ble_eq_true rfl) rfl rfl (Nat.le_of_ble_eq_true rfl) dX12_leads_9 x1 (Or.inl rfl) (fun σ2 eσ2 => ?_)
  have h := h σ2 eσ2
  refine z_aload_n X 0 dX12_leads_10 rfl ?_
  refine gC_X12_43_X12 X K dX12_leads_11 ?_
  refine z_iconst X 1 dX12_leads_14 ?_
  refine z_isub X dX12_leads_15 ?_
  refine z_topi (fun v1_3 ev1_3 => ?_)
  have h := h v1_3 ev1_3
  refine z_istore_nK X K (lv' := [(1, .int (iz v1_3)), (0, .ref (ad 65))]) dX12_leads_16 rfl rfl ?_
  obtain ⟨N, h⟩ := h
  exact z_sub [1, 0] rfl (wkc_X12_leads_17 X K hR N _ _ h)
/- X12_begin -/
theorem clc_X12_57_En {Γ : ZG} {cc : ByteArray} {fr lo nL mc0 ms0 k n pc : Nat} {xs : va_W} {lv : List (Nat × Value)} {st : List Value} {l : Launch} {D : va_G} {ds : Nat → ClassId} {ad : Nat → Nat} {a1 : Int} {σ : ZS} {post : ZS → Prop} (X : ZX Γ cc RX12 fr lo) (K : ZCap Γ l (ΘC D ds ad) nL mc0 ms0) {o : Nat} (ho : isEn o) (hrm : zroom 4 70 fr lo = true) (h : wv_En_prepare o a1 σ post) (hst : (st.map fun v => v.category).sum ≤ 8) (d : decode cc pc = .ok (.invokevirtual 57, 3)) (hcs : k ≤ mc0 ∧ n ≤ ms0) (kk : ∀ (σ' : ZS), post σ' → Z Γ k n σ' xs (pc + 3) lv (st)) : Z Γ k n σ xs pc lv (.int (iz a1) :: .ref (ad 66) :: .ref (ad o) :: st) := by
  rcases ho with rfl | rfl | rfl | rfl | rfl
  · exact z_callUV' (C := RX8) (owner := "MatrixPress$Encodation") (q0 := 53) X K (mtc_X8_prepare l D ds ad 53 a1 σ post (h.1 (Or.inl rfl))) (Nat.le_of_ble_eq_true rfl) rfl rfl rfl (lw_U q610 q612 q619 q620 q118 q621) (va_Decl.of (X.hts _ q611) (X.hts _ q632)) ⟨by decide, by decide, rfl⟩ (zroom_of (zroom_le hrm (by decide))) ⟨by rw [K.2.2.2.1]; exact hcs.1, by rw [K.2.2.2.2]; exact hcs.2⟩ hst d rfl kk
  · exact z_callUV' (C := RX8) (owner := "MatrixPress$Encodation") (q0 := 56) X K (mtc_X8_prepare l D ds ad 56 a1 σ post (h.1 (Or.inr rfl))) (Nat.le_of_ble_eq_true rfl) rfl rfl rfl (lw_U q610 q612 q619 q620 q118 q621) (va_Decl.of (X.hts _ q611) (X.hts _ q632)) ⟨by decide, by decide, rfl⟩ (zroom_of (zroom_le hrm (by decide))) ⟨by rw [K.2.2.2.1]; exact hcs.1, by rw [K.2.2.2.2]; exact hcs.2⟩ hst d rfl kk
  · exact z_callUV' (C := RX9) (owner := "MatrixPress$Encodation") (q0 := 59) X K (mtc_X9_prepare l D ds ad a1 σ post (h.2.1 rfl)) (Nat.le_of_ble_eq_true rfl) rfl rfl rfl (lw_U q610 q612 q626 q627 q123 q628) (va_Decl.of (X.hts _ q611) (X.hts _ q632)) ⟨by decide, by decide, rfl⟩ (zroom_of (zroom_le hrm (by decide))) ⟨by rw [K.2.2.2.1]; exact hcs.1, by rw [K.2.2.2.2]; exact hcs.2⟩ hst d rfl kk
  · exact z_callUV' (C := RX10) (owner := "MatrixPress$Encodation") (q0 := 62) X K (mtc_X10_prepare l D ds ad a1 σ post (h.2.2.1 rfl)) (Nat.le_of_ble_eq_true rfl) rfl rfl rfl (lw_U q610 q612 q616 q617 q124 q618) (va_Decl.of (X.hts _ q611) (X.hts _ q632)) ⟨by decide, by decide, rfl⟩ (zroom_of (zroom_le hrm (by decide))) ⟨by rw [K.2.2.2.1]; exact hcs.1, by rw [K.2.2.2.2]; exact hcs.2⟩ hst d rfl kk
  · exact z_callUV' (C := RX11) (owner := "MatrixPress$Encodation") (q0 := 64) X K (mtc_X11_prepare l D ds ad a1 σ post (h.2.2.2 rfl)) (Nat.le_of_ble_eq_true rfl) rfl rfl rfl (lw_U q610 q612 q613 q614 q125 q615) (va_Decl.of (X.hts _ q611) (X.hts _ q632)) ⟨by decide, by decide, rfl⟩ (zroom_of (zroom_le hrm (by decide))) ⟨by rw [K.2.2.2.1]; exact hcs.1, by rw [K.2.2.2.2]; exact hcs.2⟩ hst d rfl kk
set_option maxRecDepth 100000 in
theorem wkc_X12_begin_453 {Γ : ZG} {l : Launch} {D : va_G} {ds : Nat → ClassId} {ad : Nat → Nat} {post : ZS → Prop} (X : ZX Γ cX12_begin RX12 4 90) (K : ZCap Γ l (ΘC D ds ad) 9 0 0) (hR : ZRetV Γ cX12_begin 0 0 post) {C337 : Int × ZS → Prop} (hC337 : ∀ (v3 : Int) (σ : ZS), C337 (v3, σ) → Z Γ 0 0 σ [] 337 [(0, .ref (ad 65)), (3, .int (iz v3))] []) {C424 : Int × Int × ZS → Prop} (hC424 : ∀ (v3 : Int) (v4 : Int) (σ : ZS), C424 (v3, v4, σ) → Z Γ 0 0 σ [] 424 [(0, .ref (ad 65)), (3, .int (iz v3)), (4, .int (iz v4))] []) : ∀ (N : Nat) (v3 : Int) (v4 : Int) (q5 : Nat) (v6 : Int) (σ : ZS), zfix (wbc_X12_begin_453 C337 C424 post) N (v3, v4, q5, v6, σ) → Z Γ 0 0 σ [] 453 [(0, .ref (ad 65)), (3, .int (iz v3)), (4, .int (iz v4)), (5, .ref (ad q5)), (6, .int (iz v6))] [] := by
  intro N
  induction N with
  | zero => intro v3 v4 q5 v6 σ h; exact False.elim h
  | succ N ih =>
    intro v3 v4 q5 v6 σ h
    have h : wbc_X12_begin_453 C337 C424 post (zfix (wbc_X12_begin_453 C337 C424 post) N) (v3, v4, q5, v6, σ) := h
    have hC453 := ih
    clear ih
    generalize zfix (wbc_X12_begin_453 C337 C424 post) N = C453 at h hC453
    dsimp only [wbc_X12_begin_453] at h
    obtain ⟨hq5, h⟩ := h
    refine z_iload X 4 dX12_begin_453 rfl ?_
    refine z_aload_n X 0 dX12_begin_455 rfl ?_
    refine gC_X12_43_X12 X K dX12_begin_456 ?_
    refine z_iload_n X 1 dX12_begin_459 rfl ?_
    refine z_isub X dX12_begin_460 ?_
    obtain ⟨i1, h⟩ := h
    obtain ⟨i2, h⟩ := h
    refine z_icmp_gt X 506 dX12_begin_461 rfl i1 i2 (fun c3 => ?_) (fun c3 => ?_)
    · have h := h.1 c3
      refine z_iincK X K 2 (lv' := [(4, .int (iz (v4 + 1))), (0, .ref (ad 65)), (3, .int (iz v3)), (5, .ref (ad q5)), (6, .int (iz v6))]) dX12_begin_506 rfl rfl rfl ?_
      refine z_goto (tgt := 424) X dX12_begin_509 rfl ?_
      exact z_sub [1, 2, 0] rfl (hC424 _ _ _ h)
    · have h := h.2 c3
      refine z_aload_n X 0 dX12_begin_464 rfl ?_
      refine gC_X12_19_X12 X K dX12_begin_465 ?_
      refine z_iload_n X 1 dX12_begin_468 rfl ?_
      refine z_iload X 4 dX12_begin_469 rfl ?_
      refine z_iadd X dX12_begin_471 ?_
      refine z_aload_n X 0 dX12_begin_472 rfl ?_
      refine gC_X12_19_X12 X K dX12_begin_473 ?_
      refine z_iload_n X 1 dX12_begin_476 rfl ?_
      refine z_iload X 4 dX12_begin_477 rfl ?_
      refine z_iadd X dX12_begin_479 ?_
      obtain ⟨x4, h⟩ := h
      refine z_ald' X K 68 (Nat.le_of_ble_eq_true rfl) rfl rfl (Nat.le_of_ble_eq_true rfl) dX12_begin_480 x4 ?_
      refine z_aload_n X 0 dX12_begin_481 rfl ?_
      refine gC_X12_19_X12 X K dX12_begin_482 ?_
      refine z_iload_n X 1 dX12_begin_485 rfl ?_
      obtain ⟨x5, h⟩ := h
      refine z_ald' X K 68 (Nat.le_of_ble_eq_true rfl) rfl rfl (Nat.le_of_ble_eq_true rfl) dX12_begin_486 x5 ?_
      refine z_aload X 3 dX12_begin_487 rfl ?_
      refine z_iload_n X 1 dX12_begin_489 rfl ?_
      refine z_iload X 4 dX12_begin_490 rfl ?_
      refine clc_X12_76_En X K hq5 rfl h (Nat.le_of_ble_eq_true rfl) dX12_begin_492 ⟨Nat.zero_le _, Nat.zero_le _⟩ (fun r7 σ6 h => ?_)
      refine z_iadd X dX12_begin_495 ?_
      obtain ⟨i8, h⟩ := h
      obtain ⟨i9, h⟩ := h
      refine z_mmin X q642 q425 q120 q426 rfl (Nat.le_of_ble_eq_true rfl) ⟨Nat.zero_le _, Nat.zero_le _⟩ i8 i9 dX12_begin_496 ?_
      refine z_ast' X K 68 (Nat.le_of_ble_eq_true rfl) rfl rfl (Nat.le_of_ble_eq_true rfl) dX12_begin_499 x4 (fun σ10 eσ10 => ?_)
      have h := h σ10 eσ10
      refine z_iincK X K 4 (lv' := [(6, .int (iz (v6 + 1))), (0, .ref (ad 65)), (3, .int (iz v3)), (4, .int (iz v4)), (5, .ref (ad q5))]) dX12_begin_500 rfl rfl rfl ?_
      refine z_goto (tgt := 453) X dX12_begin_503 rfl ?_
      exact z_sub [1, 2, 3, 4, 0] rfl (hC453 _ _ _ _ _ h)
set_option maxRecDepth 100000 in
theorem wkc_X12_begin_424 {Γ : ZG} {l : Launch} {D : va_G} {ds : Nat → ClassId} {ad : Nat → Nat} {post : ZS → Prop} (X : ZX Γ cX12_begin RX12 4 90) (K : ZCap Γ l (ΘC D ds ad) 9 0 0) (hR : ZRetV Γ cX12_begin 0 0 post) {C337 : Int × ZS → Prop} (hC337 : ∀ (v3 : Int) (σ : ZS), C337 (v3, σ) → Z Γ 0 0 σ [] 337 [(0, .ref (ad 65)), (3, .int (iz v3))] []) : ∀ (N : Nat) (v3 : Int) (v4 : Int) (σ : ZS), zfix (wbc_X12_begin_424 C337 post) N (v3, v4, σ) → Z Γ 0 0 σ [] 424 [(0, .ref (ad 65)), (3, .int (iz v3)), (4, .int (iz v4))] [] := by
  intro N
  induction N with
  | zero => intro v3 v4 σ h; exact False.elim h
  | succ N ih =>
    intro v3 v4 σ h
    have h : wbc_X12_begin_424 C337 post (zfix (wbc_X12_begin_424 C337 post) N) (v3, v4, σ) := h
    have hC424 := ih
    clear ih
    generalize zfix (wbc_X12_begin_424 C337 post) N = C424 at h hC424
    dsimp only [wbc_X12_begin_424] at h
    refine z_iload X 2 dX12_begin_424 rfl ?_
    refine z_aload_n X 0 dX12_begin_426 rfl ?_
    refine gC_X12_36_X12 X K dX12_begin_427 ?_
    refine z_enSize q591 X K rfl (Nat.le_of_ble_eq_true rfl) dX12_begin_430 ⟨Nat.zero_le _, Nat.zero_le _⟩ ?_
    obtain ⟨i1, h⟩ := h
    obtain ⟨i2, h⟩ := h
    refine z_icmp_ge X 512 dX12_begin_433 rfl i1 i2 (fun c3 => ?_) (fun c3 => ?_)
    · have h := h.1 c3
      refine z_iincK X K 1 (lv' := [(3, .int (iz (v3 + 1))), (0, .ref (ad 65)), (4, .int (iz v4))]) dX12_begin_512 rfl rfl rfl ?_
      refine z_goto (tgt := 337) X dX12_begin_515 rfl ?_
      exact z_sub [1, 0] rfl (hC337 _ _ h)
    · have h := h.2 c3
      refine z_aload_n X 0 dX12_begin_436 rfl ?_
      refine gC_X12_36_X12 X K dX12_begin_437 ?_
      refine z_iload X 2 dX12_begin_440 rfl ?_
      obtain ⟨x4, h⟩ := h
      obtain ⟨g5, h⟩ := h
      refine z_enGet q595 X K rfl x4 ⟨i2, g5⟩ (Nat.le_of_ble_eq_true rfl) dX12_begin_442 ⟨Nat.zero_le _, Nat.zero_le _⟩ ?_
      refine z_enCast q609 X K (isEn_c v4) dX12_begin_445 ?_
      refine z_astoreK X K (lv' := [(5, .ref (ad (encC v4))), (0, .ref (ad 65)), (3, .int (iz v3)), (4, .int (iz v4))]) dX12_begin_448 rfl rfl ?_
      refine z_iconst X 1 dX12_begin_450 ?_
      refine z_istoreK X K (lv' := [(6, .int (iz 1)), (5, .ref (ad (encC v4))), (0, .ref (ad 65)), (3, .int (iz v3)), (4, .int (iz v4))]) dX12_begin_451 rfl rfl ?_
      obtain ⟨N, h⟩ := h
      exact z_sub [2, 3, 4, 1, 0] rfl (wkc_X12_begin_453 X K hR hC337 hC424 N _ _ _ _ _ h)
set_option maxRecDepth 100000 in
theorem wkc_X12_begin_421 {Γ : ZG} {l : Launch} {D : va_G} {ds : Nat → ClassId} {ad : Nat → Nat} {post : ZS → Prop} (X : ZX Γ cX12_begin RX12 4 90) (K : ZCap Γ l (ΘC D ds ad) 9 0 0) (hR : ZRetV Γ cX12_begin 0 0 post) {C337 : Int × ZS → Prop} (hC337 : ∀ (v3 : Int) (σ : ZS), C337 (v3, σ) → Z Γ 0 0 σ [] 337 [(0, .ref (ad 65)), (3, .int (iz v3))] []) (v3 : Int) (σ : ZS) (h : wc_X12_begin_421 C337 post v3 σ) : Z Γ 0 0 σ [] 421 [(0, .ref (ad 65)), (3, .int (iz v3))] [] := by
  refine z_iconst X 0 dX12_begin_421 ?_
  refine z_istoreK X K (lv' := [(4, .int (iz 0)), (0, .ref (ad 65)), (3, .int (iz v3))]) dX12_begin_422 rfl rfl ?_
  obtain ⟨N, h⟩ := h
  exact z_sub [1, 2, 0] rfl (wkc_X12_begin_424 X K hR hC337 N _ _ _ h)
set_option maxRecDepth 100000 in
theorem wkc_X12_begin_337 {Γ : ZG} {l : Launch} {D : va_G} {ds : Nat → ClassId} {ad : Nat → Nat} {post : ZS → Prop} (X : ZX Γ cX12_begin RX12 4 90) (K : ZCap Γ l (ΘC D ds ad) 9 0 0) (hR : ZRetV Γ cX12_begin 0 0 post) : ∀ (N : Nat) (v3 : Int) (σ : ZS), zfix (wbc_X12_begin_337 post) N (v3, σ) → Z Γ 0 0 σ [] 337 [(0, .ref (ad 65)), (3, .int (iz v3))] [] := by
  intro N
  induction N with
  | zero => intro v3 σ h; exact False.elim h
  | succ N ih =>
    intro v3 σ h
    have h : wbc_X12_begin_337 post (zfix (wbc_X12_begin_337 post) N) (v3, σ) := h
    have hC337 := ih
    clear ih
    generalize zfix (wbc_X12_begin_337 post) N = C337 at h hC337
    dsimp only [wbc_X12_begin_337] at h
    refine z_iload_n X 1 dX12_begin_337 rfl ?_
    refine z_aload_n X 0 dX12_begin_338 rfl ?_
    refine gC_X12_43_X12 X K dX12_begin_339 ?_
    obtain ⟨i1, h⟩ := h
    obtain ⟨i2, h⟩ := h
    refine z_icmp_ge X 518 dX12_begin_342 rfl i1 i2 (fun c3 => ?_) (fun c3 => ?_)
    · have h := h.1 c3
      exact hR _ _ _ _ _ _ dX12_begin_518 (Nat.le_refl 0) (Nat.le_refl 0) h
    · have h := h.2 c3
      refine z_aload_n X 0 dX12_begin_345 rfl ?_
      refine gC_X12_19_X12 X K dX12_begin_346 ?_
      refine z_iload_n X 1 dX12_begin_349 rfl ?_
      refine z_iconst X 1 dX12_begin_350 ?_
      refine z_iadd X dX12_begin_351 ?_
      refine z_aload_n X 0 dX12_begin_352 rfl ?_
      refine gC_X12_19_X12 X K dX12_begin_353 ?_
      refine z_iload_n X 1 dX12_begin_356 rfl ?_
      refine z_iconst X 1 dX12_begin_357 ?_
      refine z_iadd X dX12_begin_358 ?_
      obtain ⟨x4, h⟩ := h
      refine z_ald' X K 68 (Nat.le_of_ble_eq_true rfl) rfl rfl (Nat.le_of_ble_eq_true rfl) dX12_begin_359 x4 ?_
      refine z_aload_n X 0 dX12_begin_360 rfl ?_
      refine gC_X12_19_X12 X K dX12_begin_361 ?_
      refine z_iload_n X 1 dX12_begin_364 rfl ?_
      obtain ⟨x5, h⟩ := h
      refine z_ald' X K 68 (Nat.le_of_ble_eq_true rfl) rfl rfl (Nat.le_of_ble_eq_true rfl) dX12_begin_365 x5 ?_
      refine z_aload_n X 0 dX12_begin_366 rfl ?_
      refine z_iload_n X 1 dX12_begin_367 rfl ?_
      refine clc_X12_65 X K rfl h (Nat.le_of_ble_eq_true rfl) dX12_begin_368 ⟨Nat.zero_le _, Nat.zero_le _⟩ (fun r7 σ6 h => ?_)
      refine z_iadd X dX12_begin_371 ?_
      obtain ⟨i8, h⟩ := h
      obtain ⟨i9, h⟩ := h
      refine z_mmin X q642 q425 q120 q426 rfl (Nat.le_of_ble_eq_true rfl) ⟨Nat.zero_le _, Nat.zero_le _⟩ i8 i9 dX12_begin_372 ?_
      refine z_ast' X K 68 (Nat.le_of_ble_eq_true rfl) rfl rfl (Nat.le_of_ble_eq_true rfl) dX12_begin_375 x4 (fun σ10 eσ10 => ?_)
      have h := h σ10 eσ10
      refine z_aload_n X 0 dX12_begin_376 rfl ?_
      refine z_iload_n X 1 dX12_begin_377 rfl ?_
      refine clc_X12_61 X K rfl h (Nat.le_of_ble_eq_true rfl) dX12_begin_378 ⟨Nat.zero_le _, Nat.zero_le _⟩ (fun r12 σ11 h => ?_)
      obtain ⟨b12, h⟩ := h
      have h := h b12
      refine z_if_eq X 421 dX12_begin_381 rfl (InR_b b12) (fun c13 => ?_) (fun c13 => ?_)
      · have h := h.1 c13
        exact z_sub [0, 1] rfl (wkc_X12_begin_421 X K hR hC337 _ _ h)
      · have h := h.2 c13
        refine z_aload_n X 0 dX12_begin_384 rfl ?_
        refine z_iload_n X 1 dX12_begin_385 rfl ?_
        refine z_iconst X 1 dX12_begin_386 ?_
        refine z_iadd X dX12_begin_387 ?_
        refine clc_X12_61 X K rfl h (Nat.le_of_ble_eq_true rfl) dX12_begin_388 ⟨Nat.zero_le _, Nat.zero_le _⟩ (fun r15 σ14 h => ?_)
        obtain ⟨b15, h⟩ := h
        have h := h b15
        refine z_if_eq X 421 dX12_begin_391 rfl (InR_b b15) (fun c16 => ?_) (fun c16 => ?_)
        · have h := h.1 c16
          exact z_sub [0, 1] rfl (wkc_X12_begin_421 X K hR hC337 _ _ h)
        · have h := h.2 c16
          refine z_aload_n X 0 dX12_begin_394 rfl ?_
          refine gC_X12_19_X12 X K dX12_begin_395 ?_
          refine z_iload_n X 1 dX12_begin_398 rfl ?_
          refine z_iconst X 2 dX12_begin_399 ?_
          refine z_iadd X dX12_begin_400 ?_
          refine z_aload_n X 0 dX12_begin_401 rfl ?_
          refine gC_X12_19_X12 X K dX12_begin_402 ?_
          refine z_iload_n X 1 dX12_begin_405 rfl ?_
          refine z_iconst X 2 dX12_begin_406 ?_
          refine z_iadd X dX12_begin_407 ?_
          obtain ⟨x17, h⟩ := h
          refine z_ald' X K 68 (Nat.le_of_ble_eq_true rfl) rfl rfl (Nat.le_of_ble_eq_true rfl) dX12_begin_408 x17 ?_
          refine z_aload_n X 0 dX12_begin_409 rfl ?_
          refine gC_X12_19_X12 X K dX12_begin_410 ?_
          refine z_iload_n X 1 dX12_begin_413 rfl ?_
          refine z_ald' X K 68 (Nat.le_of_ble_eq_true rfl) rfl rfl (Nat.le_of_ble_eq_true rfl) dX12_begin_414 x5 ?_
          refine z_iconst X 1 dX12_begin_415 ?_
          refine z_iadd X dX12_begin_416 ?_
          obtain ⟨i18, h⟩ := h
          obtain ⟨i19, h⟩ := h
          refine z_mmin X q642 q425 q120 q426 rfl (Nat.le_of_ble_eq_true rfl) ⟨Nat.zero_le _, Nat.zero_le _⟩ i18 i19 dX12_begin_417 ?_
          refine z_ast' X K 68 (Nat.le_of_ble_eq_true rfl) rfl rfl (Nat.le_of_ble_eq_true rfl) dX12_begin_420 x17 (fun σ20 eσ20 => ?_)
          have h := h σ20 eσ20
          exact z_sub [0, 1] rfl (wkc_X12_begin_421 X K hR hC337 _ _ h)
set_option maxRecDepth 100000 in
theorem wkc_X12_begin_328 {Γ : ZG} {l : Launch} {D : va_G} {ds : Nat → ClassId} {ad : Nat → Nat} {post : ZS → Prop} (X : ZX Γ cX12_begin RX12 4 90) (K : ZCap Γ l (ΘC D ds ad) 9 0 0) (hR : ZRetV Γ cX12_begin 0 0 post) {C305 : Int × ZS → Prop} (hC305 : ∀ (v3 : Int) (σ : ZS), C305 (v3, σ) → Z Γ 0 0 σ [] 305 [(0, .ref (ad 65)), (3, .int (iz v3))] []) (v3 : Int) (t0 : Int) (t1 : Int) (σ : ZS) (h : wc_X12_begin_328 C305 post v3 t0 t1 σ) : Z Γ 0 0 σ [] 328 [(0, .ref (ad 65)), (3, .int (iz v3))] [.int (iz t0), .int (iz t1), .ref (ad 68)] := by
  obtain ⟨x1, h⟩ := h
  refine z_ast' X K 68 (Nat.le_of_ble_eq_true rfl) rfl rfl (Nat.le_of_ble_eq_true rfl) dX12_begin_328 x1 (fun σ2 eσ2 => ?_)
  have h := h σ2 eσ2
  refine z_iincK X K 1 (lv' := [(3, .int (iz (v3 + 1))), (0, .ref (ad 65))]) dX12_begin_329 rfl rfl rfl ?_
  refine z_goto (tgt := 305) X dX12_begin_332 rfl ?_
  exact z_sub [1, 0] rfl (hC305 _ _ h)
set_option maxRecDepth 100000 in
theorem wkc_X12_begin_305 {Γ : ZG} {l : Launch} {D : va_G} {ds : Nat → ClassId} {ad : Nat → Nat} {post : ZS → Prop} (X : ZX Γ cX12_begin RX12 4 90) (K : ZCap Γ l (ΘC D ds ad) 9 0 0) (hR : ZRetV Γ cX12_begin 0 0 post) : ∀ (N : Nat) (v3 : Int) (σ : ZS), zfix (wbc_X12_begin_305 post) N (v3, σ) → Z Γ 0 0 σ [] 305 [(0, .ref (ad 65)), (3, .int (iz v3))] [] := by
  intro N
  induction N with
  | zero => intro v3 σ h; exact False.elim h
  | succ N ih =>
    intro v3 σ h
    have h : wbc_X12_begin_305 post (zfix (wbc_X12_begin_305 post) N) (v3, σ) := h
    have hC305 := ih
    clear ih
    generalize zfix (wbc_X12_begin_305 post) N = C305 at h hC305
    dsimp only [wbc_X12_begin_305] at h
    refine z_iload_n X 1 dX12_begin_305 rfl ?_
    refine z_aload_n X 0 dX12_begin_306 rfl ?_
    refine gC_X12_43_X12 X K dX12_begin_307 ?_
    obtain ⟨i1, h⟩ := h
    obtain ⟨i2, h⟩ := h
    refine z_icmp_gt X 335 dX12_begin_310 rfl i1 i2 (fun c3 => ?_) (fun c3 => ?_)
    · have h := h.1 c3
      refine z_iconst X 0 dX12_begin_335 ?_
      refine z_istore_nK X K (lv' := [(3, .int (iz 0)), (0, .ref (ad 65))]) dX12_begin_336 rfl rfl ?_
      obtain ⟨N, h⟩ := h
      exact z_sub [1, 0] rfl (wkc_X12_begin_337 X K hR N _ _ h)
    · have h := h.2 c3
      refine z_aload_n X 0 dX12_begin_313 rfl ?_
      refine gC_X12_19_X12 X K dX12_begin_314 ?_
      refine z_iload_n X 1 dX12_begin_317 rfl ?_
      refine z_iload_n X 1 dX12_begin_318 rfl ?_
      refine z_if_ne X 326 dX12_begin_319 rfl i1 (fun c4 => ?_) (fun c4 => ?_)
      · have h := h.1 c4
        refine z_ldc X 1000000 q641 rfl dX12_begin_326 ?_
        exact z_sub [0, 1] rfl (wkc_X12_begin_328 X K hR hC305 _ _ _ _ h)
      · have h := h.2 c4
        refine z_iconst X 0 dX12_begin_322 ?_
        refine z_goto (tgt := 328) X dX12_begin_323 rfl ?_
        exact z_sub [0, 1] rfl (wkc_X12_begin_328 X K hR hC305 _ _ _ _ h)
set_option maxRecDepth 100000 in
theorem wkc_X12_begin_241 {Γ : ZG} {l : Launch} {D : va_G} {ds : Nat → ClassId} {ad : Nat → Nat} {post : ZS → Prop} (X : ZX Γ cX12_begin RX12 4 90) (K : ZCap Γ l (ΘC D ds ad) 9 0 0) (hR : ZRetV Γ cX12_begin 0 0 post) {C98 : Int × ZS → Prop} (hC98 : ∀ (v3 : Int) (σ : ZS), C98 (v3, σ) → Z Γ 0 0 σ [] 98 [(0, .ref (ad 65)), (3, .int (iz v3))] []) {C212 : Int × Int × Int × ZS → Prop} (hC212 : ∀ (v3 : Int) (v5 : Int) (v6 : Int) (σ : ZS), C212 (v3, v5, v6, σ) → Z Γ 0 0 σ [] 212 [(0, .ref (ad 65)), (3, .int (iz v3)), (5, .int (iz v5)), (6, .int (iz v6))] []) : ∀ (N : Nat) (v3 : Int) (v5 : Int) (v6 : Int) (q7 : Nat) (v8 : Int) (σ : ZS), zfix (wbc_X12_begin_241 C98 C212 post) N (v3, v5, v6, q7, v8, σ) → Z Γ 0 0 σ [] 241 [(0, .ref (ad 65)), (3, .int (iz v3)), (5, .int (iz v5)), (6, .int (iz v6)), (7, .ref (ad q7)), (8, .int (iz v8))] [] := by
  intro N
  induction N with
  | zero => intro v3 v5 v6 q7 v8 σ h; exact False.elim h
  | succ N ih =>
    intro v3 v5 v6 q7 v8 σ h
    have h : wbc_X12_begin_241 C98 C212 post (zfix (wbc_X12_begin_241 C98 C212 post) N) (v3, v5, v6, q7, v8, σ) := h
    have hC241 := ih
    clear ih
    generalize zfix (wbc_X12_begin_241 C98 C212 post) N = C241 at h hC241
    dsimp only [wbc_X12_begin_241] at h
    obtain ⟨hq7, h⟩ := h
    refine z_iload X 5 dX12_begin_241 rfl ?_
    refine z_aload_n X 0 dX12_begin_243 rfl ?_
    refine gC_X12_43_X12 X K dX12_begin_244 ?_
    refine z_iload_n X 1 dX12_begin_247 rfl ?_
    refine z_isub X dX12_begin_248 ?_
    obtain ⟨i1, h⟩ := h
    obtain ⟨i2, h⟩ := h
    refine z_icmp_gt X 283 dX12_begin_249 rfl i1 i2 (fun c3 => ?_) (fun c3 => ?_)
    · have h := h.1 c3
      refine z_iincK X K 3 (lv' := [(6, .int (iz (v6 + 1))), (0, .ref (ad 65)), (3, .int (iz v3)), (5, .int (iz v5)), (7, .ref (ad q7)), (8, .int (iz v8))]) dX12_begin_283 rfl rfl rfl ?_
      refine z_goto (tgt := 212) X dX12_begin_286 rfl ?_
      exact z_sub [1, 2, 3, 0] rfl (hC212 _ _ _ _ h)
    · have h := h.2 c3
      refine z_iload X 2 dX12_begin_252 rfl ?_
      refine z_aload X 4 dX12_begin_254 rfl ?_
      refine z_iload_n X 1 dX12_begin_256 rfl ?_
      refine z_iload X 5 dX12_begin_257 rfl ?_
      refine clc_X12_76_En X K hq7 rfl h (Nat.le_of_ble_eq_true rfl) dX12_begin_259 ⟨Nat.zero_le _, Nat.zero_le _⟩ (fun r5 σ4 h => ?_)
      refine z_aload_n X 0 dX12_begin_262 rfl ?_
      refine gC_X12_15_X12 X K dX12_begin_263 ?_
      refine z_iload_n X 1 dX12_begin_266 rfl ?_
      refine z_iload X 5 dX12_begin_267 rfl ?_
      refine z_iadd X dX12_begin_269 ?_
      obtain ⟨x6, h⟩ := h
      refine z_ald' X K 67 (Nat.le_of_ble_eq_true rfl) rfl rfl (Nat.le_of_ble_eq_true rfl) dX12_begin_270 x6 ?_
      refine z_iadd X dX12_begin_271 ?_
      obtain ⟨i7, h⟩ := h
      obtain ⟨i8, h⟩ := h
      refine z_mmin X q642 q425 q120 q426 rfl (Nat.le_of_ble_eq_true rfl) ⟨Nat.zero_le _, Nat.zero_le _⟩ i7 i8 dX12_begin_272 ?_
      refine z_topi (fun v5_9 ev5_9 => ?_)
      have h := h v5_9 ev5_9
      refine z_istoreK X K (lv' := [(5, .int (iz v5_9)), (0, .ref (ad 65)), (3, .int (iz v3)), (6, .int (iz v6)), (7, .ref (ad q7)), (8, .int (iz v8))]) dX12_begin_275 rfl rfl ?_
      refine z_iincK X K 5 (lv' := [(8, .int (iz (v8 + 1))), (5, .int (iz v5_9)), (0, .ref (ad 65)), (3, .int (iz v3)), (6, .int (iz v6)), (7, .ref (ad q7))]) dX12_begin_277 rfl rfl rfl ?_
      refine z_goto (tgt := 241) X dX12_begin_280 rfl ?_
      exact z_sub [2, 3, 1, 4, 5, 0] rfl (hC241 _ _ _ _ _ _ h)
set_option maxRecDepth 100000 in
theorem wkc_X12_begin_212 {Γ : ZG} {l : Launch} {D : va_G} {ds : Nat → ClassId} {ad : Nat → Nat} {post : ZS → Prop} (X : ZX Γ cX12_begin RX12 4 90) (K : ZCap Γ l (ΘC D ds ad) 9 0 0) (hR : ZRetV Γ cX12_begin 0 0 post) {C98 : Int × ZS → Prop} (hC98 : ∀ (v3 : Int) (σ : ZS), C98 (v3, σ) → Z Γ 0 0 σ [] 98 [(0, .ref (ad 65)), (3, .int (iz v3))] []) : ∀ (N : Nat) (v3 : Int) (v5 : Int) (v6 : Int) (σ : ZS), zfix (wbc_X12_begin_212 C98 post) N (v3, v5, v6, σ) → Z Γ 0 0 σ [] 212 [(0, .ref (ad 65)), (3, .int (iz v3)), (5, .int (iz v5)), (6, .int (iz v6))] [] := by
  intro N
  induction N with
  | zero => intro v3 v5 v6 σ h; exact False.elim h
  | succ N ih =>
    intro v3 v5 v6 σ h
    have h : wbc_X12_begin_212 C98 post (zfix (wbc_X12_begin_212 C98 post) N) (v3, v5, v6, σ) := h
    have hC212 := ih
    clear ih
    generalize zfix (wbc_X12_begin_212 C98 post) N = C212 at h hC212
    dsimp only [wbc_X12_begin_212] at h
    refine z_iload X 3 dX12_begin_212 rfl ?_
    refine z_aload_n X 0 dX12_begin_214 rfl ?_
    refine gC_X12_36_X12 X K dX12_begin_215 ?_
    refine z_enSize q591 X K rfl (Nat.le_of_ble_eq_true rfl) dX12_begin_218 ⟨Nat.zero_le _, Nat.zero_le _⟩ ?_
    obtain ⟨i1, h⟩ := h
    obtain ⟨i2, h⟩ := h
    refine z_icmp_ge X 289 dX12_begin_221 rfl i1 i2 (fun c3 => ?_) (fun c3 => ?_)
    · have h := h.1 c3
      refine z_aload_n X 0 dX12_begin_289 rfl ?_
      refine gC_X12_15_X12 X K dX12_begin_290 ?_
      refine z_iload_n X 1 dX12_begin_293 rfl ?_
      refine z_iload X 2 dX12_begin_294 rfl ?_
      obtain ⟨x4, h⟩ := h
      refine z_ast' X K 67 (Nat.le_of_ble_eq_true rfl) rfl rfl (Nat.le_of_ble_eq_true rfl) dX12_begin_296 x4 (fun σ5 eσ5 => ?_)
      have h := h σ5 eσ5
      refine z_iincK X K 1 (lv' := [(3, .int (iz (v3 + (-1)))), (0, .ref (ad 65)), (5, .int (iz v5)), (6, .int (iz v6))]) dX12_begin_297 rfl rfl rfl ?_
      refine z_goto (tgt := 98) X dX12_begin_300 rfl ?_
      exact z_sub [1, 0] rfl (hC98 _ _ h)
    · have h := h.2 c3
      refine z_aload_n X 0 dX12_begin_224 rfl ?_
      refine gC_X12_36_X12 X K dX12_begin_225 ?_
      refine z_iload X 3 dX12_begin_228 rfl ?_
      obtain ⟨x6, h⟩ := h
      obtain ⟨g7, h⟩ := h
      refine z_enGet q595 X K rfl x6 ⟨i2, g7⟩ (Nat.le_of_ble_eq_true rfl) dX12_begin_230 ⟨Nat.zero_le _, Nat.zero_le _⟩ ?_
      refine z_enCast q609 X K (isEn_c v6) dX12_begin_233 ?_
      refine z_astoreK X K (lv' := [(7, .ref (ad (encC v6))), (0, .ref (ad 65)), (3, .int (iz v3)), (5, .int (iz v5)), (6, .int (iz v6))]) dX12_begin_236 rfl rfl ?_
      refine z_iconst X 1 dX12_begin_238 ?_
      refine z_istoreK X K (lv' := [(8, .int (iz 1)), (7, .ref (ad (encC v6))), (0, .ref (ad 65)), (3, .int (iz v3)), (5, .int (iz v5)), (6, .int (iz v6))]) dX12_begin_239 rfl rfl ?_
      obtain ⟨N, h⟩ := h
      exact z_sub [2, 3, 4, 5, 1, 0] rfl (wkc_X12_begin_241 X K hR hC98 hC212 N _ _ _ _ _ _ h)
set_option maxRecDepth 100000 in
theorem wkc_X12_begin_204 {Γ : ZG} {l : Launch} {D : va_G} {ds : Nat → ClassId} {ad : Nat → Nat} {post : ZS → Prop} (X : ZX Γ cX12_begin RX12 4 90) (K : ZCap Γ l (ΘC D ds ad) 9 0 0) (hR : ZRetV Γ cX12_begin 0 0 post) {C98 : Int × ZS → Prop} (hC98 : ∀ (v3 : Int) (σ : ZS), C98 (v3, σ) → Z Γ 0 0 σ [] 98 [(0, .ref (ad 65)), (3, .int (iz v3))] []) (v3 : Int) (t0 : Int) (t1 : Int) (σ : ZS) (h : wc_X12_begin_204 C98 post v3 t0 t1 σ) : Z Γ 0 0 σ [] 204 [(0, .ref (ad 65)), (3, .int (iz v3))] [.int (iz t0), .int (iz t1)] := by
  obtain ⟨i1, h⟩ := h
  obtain ⟨i2, h⟩ := h
  refine z_mmin X q642 q425 q120 q426 rfl (Nat.le_of_ble_eq_true rfl) ⟨Nat.zero_le _, Nat.zero_le _⟩ i1 i2 dX12_begin_204 ?_
  refine z_topi (fun v5_3 ev5_3 => ?_)
  have h := h v5_3 ev5_3
  refine z_istoreK X K (lv' := [(5, .int (iz v5_3)), (0, .ref (ad 65)), (3, .int (iz v3))]) dX12_begin_207 rfl rfl ?_
  refine z_iconst X 0 dX12_begin_209 ?_
  refine z_istoreK X K (lv' := [(6, .int (iz 0)), (5, .int (iz v5_3)), (0, .ref (ad 65)), (3, .int (iz v3))]) dX12_begin_210 rfl rfl ?_
  obtain ⟨N, h⟩ := h
  exact z_sub [2, 3, 1, 0] rfl (wkc_X12_begin_212 X K hR hC98 N _ _ _ _ h)
set_option maxRecDepth 100000 in
theorem wkc_X12_begin_166 {Γ : ZG} {l : Launch} {D : va_G} {ds : Nat → ClassId} {ad : Nat → Nat} {post : ZS → Prop} (X : ZX Γ cX12_begin RX12 4 90) (K : ZCap Γ l (ΘC D ds ad) 9 0 0) (hR : ZRetV Γ cX12_begin 0 0 post) {C98 : Int × ZS → Prop} (hC98 : ∀ (v3 : Int) (σ : ZS), C98 (v3, σ) → Z Γ 0 0 σ [] 98 [(0, .ref (ad 65)), (3, .int (iz v3))] []) (v3 : Int) (v4 : Int) (t0 : Int) (t1 : Int) (t2 : Int) (σ : ZS) (h : wc_X12_begin_166 C98 post v3 v4 t0 t1 t2 σ) : Z Γ 0 0 σ [] 166 [(0, .ref (ad 65)), (3, .int (iz v3)), (4, .int (iz v4))] [.int (iz t0), .int (iz t1), .int (iz t2), .ref (ad 69)] := by
  obtain ⟨i1, h⟩ := h
  obtain ⟨i2, h⟩ := h
  refine z_mmin X q642 q425 q120 q426 rfl (Nat.le_of_ble_eq_true rfl) ⟨Nat.zero_le _, Nat.zero_le _⟩ i1 i2 dX12_begin_166 ?_
  obtain ⟨x3, h⟩ := h
  refine z_ast' X K 69 (Nat.le_of_ble_eq_true rfl) rfl rfl (Nat.le_of_ble_eq_true rfl) dX12_begin_169 x3 (fun σ4 eσ4 => ?_)
  have h := h σ4 eσ4
  refine z_aload_n X 0 dX12_begin_170 rfl ?_
  refine z_iload_n X 1 dX12_begin_171 rfl ?_
  refine clc_X12_65 X K rfl h (Nat.le_of_ble_eq_true rfl) dX12_begin_172 ⟨Nat.zero_le _, Nat.zero_le _⟩ (fun r6 σ5 h => ?_)
  refine z_aload_n X 0 dX12_begin_175 rfl ?_
  refine gC_X12_15_X12 X K dX12_begin_176 ?_
  refine z_iload_n X 1 dX12_begin_179 rfl ?_
  refine z_iconst X 1 dX12_begin_180 ?_
  refine z_iadd X dX12_begin_181 ?_
  obtain ⟨x7, h⟩ := h
  refine z_ald' X K 67 (Nat.le_of_ble_eq_true rfl) rfl rfl (Nat.le_of_ble_eq_true rfl) dX12_begin_182 x7 ?_
  refine z_iadd X dX12_begin_183 ?_
  refine z_iload X 2 dX12_begin_184 rfl ?_
  obtain ⟨i8, h⟩ := h
  refine z_if_eq X 202 dX12_begin_186 rfl i8 (fun c9 => ?_) (fun c9 => ?_)
  · have h := h.1 c9
    refine z_ldc X 1000000 q641 rfl dX12_begin_202 ?_
    exact z_sub [0, 1] rfl (wkc_X12_begin_204 X K hR hC98 _ _ _ _ h)
  · have h := h.2 c9
    refine z_iconst X 1 dX12_begin_189 ?_
    refine z_aload_n X 0 dX12_begin_190 rfl ?_
    refine gC_X12_15_X12 X K dX12_begin_191 ?_
    refine z_iload_n X 1 dX12_begin_194 rfl ?_
    refine z_iconst X 2 dX12_begin_195 ?_
    refine z_iadd X dX12_begin_196 ?_
    obtain ⟨x10, h⟩ := h
    refine z_ald' X K 67 (Nat.le_of_ble_eq_true rfl) rfl rfl (Nat.le_of_ble_eq_true rfl) dX12_begin_197 x10 ?_
    refine z_iadd X dX12_begin_198 ?_
    refine z_goto (tgt := 204) X dX12_begin_199 rfl ?_
    exact z_sub [0, 1] rfl (wkc_X12_begin_204 X K hR hC98 _ _ _ _ h)
set_option maxRecDepth 100000 in
theorem wkc_X12_begin_125 {Γ : ZG} {l : Launch} {D : va_G} {ds : Nat → ClassId} {ad : Nat → Nat} {post : ZS → Prop} (X : ZX Γ cX12_begin RX12 4 90) (K : ZCap Γ l (ΘC D ds ad) 9 0 0) (hR : ZRetV Γ cX12_begin 0 0 post) {C98 : Int × ZS → Prop} (hC98 : ∀ (v3 : Int) (σ : ZS), C98 (v3, σ) → Z Γ 0 0 σ [] 98 [(0, .ref (ad 65)), (3, .int (iz v3))] []) (v3 : Int) (t0 : Int) (σ : ZS) (h : wc_X12_begin_125 C98 post v3 t0 σ) : Z Γ 0 0 σ [] 125 [(0, .ref (ad 65)), (3, .int (iz v3))] [.int (iz t0)] := by
  refine z_istoreK X K (lv' := [(4, .int (iz t0)), (0, .ref (ad 65)), (3, .int (iz v3))]) dX12_begin_125 rfl rfl ?_
  refine z_aload_n X 1 dX12_begin_127 rfl ?_
  refine gC_X12_22_X12 X K dX12_begin_128 ?_
  refine z_iload_n X 2 dX12_begin_131 rfl ?_
  refine z_aload_n X 1 dX12_begin_132 rfl ?_
  refine z_iload_n X 2 dX12_begin_133 rfl ?_
  refine clc_X12_65 X K rfl h (Nat.le_of_ble_eq_true rfl) dX12_begin_134 ⟨Nat.zero_le _, Nat.zero_le _⟩ (fun r2 σ1 h => ?_)
  refine z_aload_n X 1 dX12_begin_137 rfl ?_
  refine gC_X12_22_X12 X K dX12_begin_138 ?_
  refine z_iload_n X 2 dX12_begin_141 rfl ?_
  refine z_iconst X 1 dX12_begin_142 ?_
  refine z_iadd X dX12_begin_143 ?_
  obtain ⟨x3, h⟩ := h
  refine z_ald' X K 69 (Nat.le_of_ble_eq_true rfl) rfl rfl (Nat.le_of_ble_eq_true rfl) dX12_begin_144 x3 ?_
  refine z_iadd X dX12_begin_145 ?_
  refine z_iload X 0 dX12_begin_146 rfl ?_
  obtain ⟨i4, h⟩ := h
  refine z_if_eq X 164 dX12_begin_148 rfl i4 (fun c5 => ?_) (fun c5 => ?_)
  · have h := h.1 c5
    refine z_ldc X 1000000 q641 rfl dX12_begin_164 ?_
    exact z_sub [1, 2, 0] rfl (wkc_X12_begin_166 X K hR hC98 _ _ _ _ _ _ h)
  · have h := h.2 c5
    refine z_iconst X 1 dX12_begin_151 ?_
    refine z_aload_n X 1 dX12_begin_152 rfl ?_
    refine gC_X12_22_X12 X K dX12_begin_153 ?_
    refine z_iload_n X 2 dX12_begin_156 rfl ?_
    refine z_iconst X 2 dX12_begin_157 ?_
    refine z_iadd X dX12_begin_158 ?_
    obtain ⟨x6, h⟩ := h
    refine z_ald' X K 69 (Nat.le_of_ble_eq_true rfl) rfl rfl (Nat.le_of_ble_eq_true rfl) dX12_begin_159 x6 ?_
    refine z_iadd X dX12_begin_160 ?_
    refine z_goto (tgt := 166) X dX12_begin_161 rfl ?_
    exact z_sub [1, 2, 0] rfl (wkc_X12_begin_166 X K hR hC98 _ _ _ _ _ _ h)
set_option maxRecDepth 100000 in
theorem wkc_X12_begin_124 {Γ : ZG} {l : Launch} {D : va_G} {ds : Nat → ClassId} {ad : Nat → Nat} {post : ZS → Prop} (X : ZX Γ cX12_begin RX12 4 90) (K : ZCap Γ l (ΘC D ds ad) 9 0 0) (hR : ZRetV Γ cX12_begin 0 0 post) {C98 : Int × ZS → Prop} (hC98 : ∀ (v3 : Int) (σ : ZS), C98 (v3, σ) → Z Γ 0 0 σ [] 98 [(0, .ref (ad 65)), (3, .int (iz v3))] []) (v3 : Int) (σ : ZS) (h : wc_X12_begin_124 C98 post v3 σ) : Z Γ 0 0 σ [] 124 [(0, .ref (ad 65)), (3, .int (iz v3))] [] := by
  refine z_iconst X 0 dX12_begin_124 ?_
  exact z_sub [0, 1] rfl (wkc_X12_begin_125 X K hR hC98 _ _ _ h)
set_option maxRecDepth 100000 in
theorem wkc_X12_begin_98 {Γ : ZG} {l : Launch} {D : va_G} {ds : Nat → ClassId} {ad : Nat → Nat} {post : ZS → Prop} (X : ZX Γ cX12_begin RX12 4 90) (K : ZCap Γ l (ΘC D ds ad) 9 0 0) (hR : ZRetV Γ cX12_begin 0 0 post) : ∀ (N : Nat) (v3 : Int) (σ : ZS), zfix (wbc_X12_begin_98 post) N (v3, σ) → Z Γ 0 0 σ [] 98 [(0, .ref (ad 65)), (3, .int (iz v3))] [] := by
  intro N
  induction N with
  | zero => intro v3 σ h; exact False.elim h
  | succ N ih =>
    intro v3 σ h
    have h : wbc_X12_begin_98 post (zfix (wbc_X12_begin_98 post) N) (v3, σ) := h
    have hC98 := ih
    clear ih
    generalize zfix (wbc_X12_begin_98 post) N = C98 at h hC98
    dsimp only [wbc_X12_begin_98] at h
    refine z_iload_n X 1 dX12_begin_98 rfl ?_
    obtain ⟨i1, h⟩ := h
    refine z_if_lt X 303 dX12_begin_99 rfl i1 (fun c2 => ?_) (fun c2 => ?_)
    · have h := h.1 c2
      refine z_iconst X 0 dX12_begin_303 ?_
      refine z_istore_nK X K (lv' := [(3, .int (iz 0)), (0, .ref (ad 65))]) dX12_begin_304 rfl rfl ?_
      obtain ⟨N, h⟩ := h
      exact z_sub [1, 0] rfl (wkc_X12_begin_305 X K hR N _ _ h)
    · have h := h.2 c2
      refine z_aload_n X 0 dX12_begin_102 rfl ?_
      refine z_iload_n X 1 dX12_begin_103 rfl ?_
      refine clc_X12_61 X K rfl h (Nat.le_of_ble_eq_true rfl) dX12_begin_104 ⟨Nat.zero_le _, Nat.zero_le _⟩ (fun r4 σ3 h => ?_)
      obtain ⟨b4, h⟩ := h
      have h := h b4
      refine z_if_eq X 124 dX12_begin_107 rfl (InR_b b4) (fun c5 => ?_) (fun c5 => ?_)
      · have h := h.1 c5
        exact z_sub [0, 1] rfl (wkc_X12_begin_124 X K hR hC98 _ _ h)
      · have h := h.2 c5
        refine z_aload_n X 0 dX12_begin_110 rfl ?_
        refine z_iload_n X 1 dX12_begin_111 rfl ?_
        refine z_iconst X 1 dX12_begin_112 ?_
        refine z_iadd X dX12_begin_113 ?_
        refine clc_X12_61 X K rfl h (Nat.le_of_ble_eq_true rfl) dX12_begin_114 ⟨Nat.zero_le _, Nat.zero_le _⟩ (fun r7 σ6 h => ?_)
        obtain ⟨b7, h⟩ := h
        have h := h b7
        refine z_if_eq X 124 dX12_begin_117 rfl (InR_b b7) (fun c8 => ?_) (fun c8 => ?_)
        · have h := h.1 c8
          exact z_sub [0, 1] rfl (wkc_X12_begin_124 X K hR hC98 _ _ h)
        · have h := h.2 c8
          refine z_iconst X 1 dX12_begin_120 ?_
          refine z_goto (tgt := 125) X dX12_begin_121 rfl ?_
          exact z_sub [0, 1] rfl (wkc_X12_begin_125 X K hR hC98 _ _ _ h)
set_option maxRecDepth 100000 in
theorem wkc_X12_begin_32 {Γ : ZG} {l : Launch} {D : va_G} {ds : Nat → ClassId} {ad : Nat → Nat} {post : ZS → Prop} (X : ZX Γ cX12_begin RX12 4 90) (K : ZCap Γ l (ΘC D ds ad) 9 0 0) (hR : ZRetV Γ cX12_begin 0 0 post) : ∀ (N : Nat) (v3 : Int) (σ : ZS), zfix (wbc_X12_begin_32 post) N (v3, σ) → Z Γ 0 0 σ [] 32 [(0, .ref (ad 65)), (3, .int (iz v3))] [] := by
  intro N
  induction N with
  | zero => intro v3 σ h; exact False.elim h
  | succ N ih =>
    intro v3 σ h
    have h : wbc_X12_begin_32 post (zfix (wbc_X12_begin_32 post) N) (v3, σ) := h
    have hC32 := ih
    clear ih
    generalize zfix (wbc_X12_begin_32 post) N = C32 at h hC32
    dsimp only [wbc_X12_begin_32] at h
    refine z_iload_n X 1 dX12_begin_32 rfl ?_
    refine z_aload_n X 0 dX12_begin_33 rfl ?_
    refine gC_X12_36_X12 X K dX12_begin_34 ?_
    refine z_enSize q591 X K rfl (Nat.le_of_ble_eq_true rfl) dX12_begin_37 ⟨Nat.zero_le _, Nat.zero_le _⟩ ?_
    obtain ⟨i1, h⟩ := h
    obtain ⟨i2, h⟩ := h
    refine z_icmp_ge X 71 dX12_begin_40 rfl i1 i2 (fun c3 => ?_) (fun c3 => ?_)
    · have h := h.1 c3
      refine z_aload_n X 0 dX12_begin_71 rfl ?_
      refine gC_X12_22_X12 X K dX12_begin_72 ?_
      refine z_aload_n X 0 dX12_begin_75 rfl ?_
      refine gC_X12_43_X12 X K dX12_begin_76 ?_
      refine z_iconst X 0 dX12_begin_79 ?_
      obtain ⟨x4, h⟩ := h
      refine z_ast' X K 69 (Nat.le_of_ble_eq_true rfl) rfl rfl (Nat.le_of_ble_eq_true rfl) dX12_begin_80 x4 (fun σ5 eσ5 => ?_)
      have h := h σ5 eσ5
      refine z_aload_n X 0 dX12_begin_81 rfl ?_
      refine gC_X12_15_X12 X K dX12_begin_82 ?_
      refine z_aload_n X 0 dX12_begin_85 rfl ?_
      refine gC_X12_43_X12 X K dX12_begin_86 ?_
      refine z_iconst X 0 dX12_begin_89 ?_
      obtain ⟨x6, h⟩ := h
      refine z_ast' X K 67 (Nat.le_of_ble_eq_true rfl) rfl rfl (Nat.le_of_ble_eq_true rfl) dX12_begin_90 x6 (fun σ7 eσ7 => ?_)
      have h := h σ7 eσ7
      refine z_aload_n X 0 dX12_begin_91 rfl ?_
      refine gC_X12_43_X12 X K dX12_begin_92 ?_
      refine z_iconst X 1 dX12_begin_95 ?_
      refine z_isub X dX12_begin_96 ?_
      refine z_topi (fun v3_8 ev3_8 => ?_)
      have h := h v3_8 ev3_8
      refine z_istore_nK X K (lv' := [(3, .int (iz v3_8)), (0, .ref (ad 65))]) dX12_begin_97 rfl rfl ?_
      obtain ⟨N, h⟩ := h
      exact z_sub [1, 0] rfl (wkc_X12_begin_98 X K hR N _ _ h)
    · have h := h.2 c3
      refine z_aload_n X 0 dX12_begin_43 rfl ?_
      refine gC_X12_36_X12 X K dX12_begin_44 ?_
      refine z_iload_n X 1 dX12_begin_47 rfl ?_
      obtain ⟨x9, h⟩ := h
      obtain ⟨g10, h⟩ := h
      refine z_enGet q595 X K rfl x9 ⟨i2, g10⟩ (Nat.le_of_ble_eq_true rfl) dX12_begin_48 ⟨Nat.zero_le _, Nat.zero_le _⟩ ?_
      refine z_enCast q609 X K (isEn_c v3) dX12_begin_51 ?_
      refine z_aload_n X 0 dX12_begin_54 rfl ?_
      refine gC_X12_9_X12 X K dX12_begin_55 ?_
      refine z_aload_n X 0 dX12_begin_58 rfl ?_
      refine gC_X12_43_X12 X K dX12_begin_59 ?_
      refine clc_X12_57_En X K (isEn_c v3) rfl h (Nat.le_of_ble_eq_true rfl) dX12_begin_62 ⟨Nat.zero_le _, Nat.zero_le _⟩ (fun σ11 h => ?_)
      refine z_iincK X K 1 (lv' := [(3, .int (iz (v3 + 1))), (0, .ref (ad 65))]) dX12_begin_65 rfl rfl rfl ?_
      refine z_goto (tgt := 32) X dX12_begin_68 rfl ?_
      exact z_sub [1, 0] rfl (hC32 _ _ h)
set_option maxRecDepth 100000 in
theorem wkc_X12_begin_7 {Γ : ZG} {l : Launch} {D : va_G} {ds : Nat → ClassId} {ad : Nat → Nat} {post : ZS → Prop} (X : ZX Γ cX12_begin RX12 4 90) (K : ZCap Γ l (ΘC D ds ad) 9 0 0) (hR : ZRetV Γ cX12_begin 0 0 post) : ∀ (N : Nat) (v3 : Int) (σ : ZS), zfix (wbc_X12_begin_7 post) N (v3, σ) → Z Γ 0 0 σ [] 7 [(0, .ref (ad 65)), (1, .ref (ad 71)), (3, .int (iz v3))] [] := by
  intro N
  induction N with
  | zero => intro v3 σ h; exact False.elim h
  | succ N ih =>
    intro v3 σ h
    have h : wbc_X12_begin_7 post (zfix (wbc_X12_begin_7 post) N) (v3, σ) := h
    have hC7 := ih
    clear ih
    generalize zfix (wbc_X12_begin_7 post) N = C7 at h hC7
    dsimp only [wbc_X12_begin_7] at h
    refine z_iload_n X 2 dX12_begin_7 rfl ?_
    refine z_aload_n X 0 dX12_begin_8 rfl ?_
    refine gC_X12_43_X12 X K dX12_begin_9 ?_
    obtain ⟨i1, h⟩ := h
    obtain ⟨i2, h⟩ := h
    refine z_icmp_ge X 30 dX12_begin_12 rfl i1 i2 (fun c3 => ?_) (fun c3 => ?_)
    · have h := h.1 c3
      refine z_iconst X 0 dX12_begin_30 ?_
      refine z_istore_nK X K (lv' := [(3, .int (iz 0)), (0, .ref (ad 65)), (1, .ref (ad 71))]) dX12_begin_31 rfl rfl ?_
      obtain ⟨N, h⟩ := h
      exact z_sub [1, 0] rfl (wkc_X12_begin_32 X K hR N _ _ h)
    · have h := h.2 c3
      refine z_aload_n X 0 dX12_begin_15 rfl ?_
      refine gC_X12_9_X12 X K dX12_begin_16 ?_
      refine z_iload_n X 2 dX12_begin_19 rfl ?_
      refine z_aload_n X 1 dX12_begin_20 rfl ?_
      refine z_iload_n X 2 dX12_begin_21 rfl ?_
      obtain ⟨x4, h⟩ := h
      refine z_aldB' X K 71 (Nat.le_of_ble_eq_true rfl) rfl rfl (Nat.le_of_ble_eq_true rfl) dX12_begin_22 x4 ?_
      obtain ⟨y6, h⟩ := h
      refine z_astB' X K 66 (Nat.le_of_ble_eq_true rfl) rfl rfl (Nat.le_of_ble_eq_true rfl) dX12_begin_23 x4 (z_nar_by y6) (fun σ5 eσ5 => ?_)
      have h := h σ5 eσ5
      refine z_iincK X K 2 (lv' := [(3, .int (iz (v3 + 1))), (0, .ref (ad 65)), (1, .ref (ad 71))]) dX12_begin_24 rfl rfl rfl ?_
      refine z_goto (tgt := 7) X dX12_begin_27 rfl ?_
      exact z_sub [1, 2, 0] rfl (hC7 _ _ h)
set_option maxRecDepth 100000 in
theorem mtc_X12_begin (l : Launch) (D : va_G) (ds : Nat → ClassId) (ad : Nat → Nat) (a1 : Int) (σ : ZS) (post : ZS → Prop) (h : wc_X12_begin a1 σ post) : ZMetV l (ΘC D ds ad) yX12_begin cX12_begin 9 4 90 0 0 [.ref (ad 65), .ref (ad 71), .int (iz a1)] σ post := by
  refine ZMetV.of (by decide) (Nat.le_of_ble_eq_true rfl) (fun Γ X K hR => ?_)
  have X : ZX Γ cX12_begin RX12 4 90 := X
  refine z_sub [0, 1, 2] (lv' := [(0, .ref (ad 65)), (1, .ref (ad 71)), (2, .int (iz a1))]) rfl ?_
  refine z_aload_n X 0 dX12_begin_0 rfl ?_
  refine z_iload_n X 2 dX12_begin_1 rfl ?_
  refine pC_X12_43_X12 X K dX12_begin_2 (fun σ1 eσ1 => ?_)
  have h := h σ1 eσ1
  refine z_iconst X 0 dX12_begin_5 ?_
  refine z_istore_nK X K (lv' := [(3, .int (iz 0)), (0, .ref (ad 65)), (1, .ref (ad 71)), (2, .int (iz a1))]) dX12_begin_6 rfl rfl ?_
  obtain ⟨N, h⟩ := h
  exact z_sub [1, 2, 0] rfl (wkc_X12_begin_7 X K hR N _ _ h)
/- X1_feed -/
set_option maxRecDepth 100000 in
theorem wkc_X1_feed_74 {Γ : ZG} {l : Launch} {D : va_G} {ds : Nat → ClassId} {ad : Nat → Nat} {post : Int → ZS → Prop} (X : ZX Γ cX1_feed RX1 2 24) (K : ZCap Γ l (ΘC D ds ad) 9 0 0) (hR : ZRetI Γ cX1_feed .int 0 0 post) {C28 : Int × Int64 × Int64 × Int64 × Int × ZS → Prop} (hC28 : ∀ (v1 : Int) (v2 : Int64) (v4 : Int64) (v6 : Int64) (v8 : Int) (σ : ZS), C28 (v1, v2, v4, v6, v8, σ) → Z Γ 0 0 σ [] 28 [(0, .ref (ad 0)), (1, .int (iz v1)), (2, .long v2), (4, .long v4), (6, .long v6), (8, .int (iz v8))] []) (v1 : Int) (v2 : Int64) (v4 : Int64) (v6 : Int64) (v8 : Int) (t0 : Int64) (t1 : Int) (σ : ZS) (h : wc_X1_feed_74 C28 post v1 v2 v4 v6 v8 t0 t1 σ) : Z Γ 0 0 σ [] 74 [(0, .ref (ad 0)), (1, .int (iz v1)), (2, .long v2), (4, .long v4), (6, .long v6), (8, .int (iz v8))] [.long t0, .int (iz t1), .ref (ad 71)] := by
  refine z_bipush X 8 dX1_feed_74 rfl ?_
  refine z_iload X 5 dX1_feed_76 rfl ?_
  refine z_bipush X 8 dX1_feed_78 rfl ?_
  obtain ⟨i1, h⟩ := h
  obtain ⟨g2, h⟩ := h
  refine z_irem X dX1_feed_80 ⟨i1, (by decide), g2, (by decide)⟩ ?_
  refine z_imul X dX1_feed_81 ?_
  refine z_lshr X dX1_feed_82 ?_
  refine z_l2i X dX1_feed_83 ?_
  refine z_i2b X dX1_feed_84 ?_
  obtain ⟨x3, h⟩ := h
  refine z_astB' X K 71 (Nat.le_of_ble_eq_true rfl) rfl rfl (Nat.le_of_ble_eq_true rfl) dX1_feed_85 x3 (z_nar_i2b _) (fun σ4 eσ4 => ?_)
  have h := h σ4 eσ4
  refine z_iincK X K 5 (lv' := [(8, .int (iz (v8 + 1))), (0, .ref (ad 0)), (1, .int (iz v1)), (2, .long v2), (4, .long v4), (6, .long v6)]) dX1_feed_86 rfl rfl rfl ?_
  refine z_goto (tgt := 28) X dX1_feed_89 rfl ?_
  exact z_sub [1, 2, 3, 4, 5, 0] rfl (hC28 _ _ _ _ _ _ h)
set_option maxRecDepth 100000 in
theorem wkc_X1_feed_28 {Γ : ZG} {l : Launch} {D : va_G} {ds : Nat → ClassId} {ad : Nat → Nat} {post : Int → ZS → Prop} (X : ZX Γ cX1_feed RX1 2 24) (K : ZCap Γ l (ΘC D ds ad) 9 0 0) (hR : ZRetI Γ cX1_feed .int 0 0 post) : ∀ (N : Nat) (v1 : Int) (v2 : Int64) (v4 : Int64) (v6 : Int64) (v8 : Int) (σ : ZS), zfix (wbc_X1_feed_28 post) N (v1, v2, v4, v6, v8, σ) → Z Γ 0 0 σ [] 28 [(0, .ref (ad 0)), (1, .int (iz v1)), (2, .long v2), (4, .long v4), (6, .long v6), (8, .int (iz v8))] [] := by
  intro N
  induction N with
  | zero => intro v1 v2 v4 v6 v8 σ h; exact False.elim h
  | succ N ih =>
    intro v1 v2 v4 v6 v8 σ h
    have h : wbc_X1_feed_28 post (zfix (wbc_X1_feed_28 post) N) (v1, v2, v4, v6, v8, σ) := h
    have hC28 := ih
    clear ih
    generalize zfix (wbc_X1_feed_28 post) N = C28 at h hC28
    dsimp only [wbc_X1_feed_28] at h
    refine z_iload X 5 dX1_feed_28 rfl ?_
    refine z_iload_n X 1 dX1_feed_30 rfl ?_
    obtain ⟨i1, h⟩ := h
    obtain ⟨i2, h⟩ := h
    refine z_icmp_ge X 92 dX1_feed_31 rfl i1 i2 (fun c3 => ?_) (fun c3 => ?_)
    · have h := h.1 c3
      refine z_aload_n X 0 dX1_feed_92 rfl ?_
      refine gC_X1_95_X1 X K dX1_feed_93 ?_
      exact hR _ _ _ _ _ _ _ dX1_feed_96 rfl (Nat.le_refl 0) (Nat.le_refl 0) h
    · have h := h.2 c3
      refine z_aload_n X 0 dX1_feed_34 rfl ?_
      refine gC_X1_48_X1 X K dX1_feed_35 ?_
      refine z_aload_n X 0 dX1_feed_38 rfl ?_
      refine z_dup X dX1_feed_39 rfl ?_
      refine gC_X1_95_X1 X K dX1_feed_40 ?_
      refine z_dup_x1 X dX1_feed_43 rfl rfl ?_
      refine z_iconst X 1 dX1_feed_44 ?_
      refine z_iadd X dX1_feed_45 ?_
      refine pC_X1_95_X1 X K dX1_feed_46 (fun σ4 eσ4 => ?_)
      have h := h σ4 eσ4
      refine z_iload X 5 dX1_feed_49 rfl ?_
      refine z_bipush X 8 dX1_feed_51 rfl ?_
      refine z_icmp_ge X 60 dX1_feed_53 rfl i1 (by decide) (fun c5 => ?_) (fun c5 => ?_)
      · have h := h.1 c5
        refine z_iload X 5 dX1_feed_60 rfl ?_
        refine z_bipush X 16 dX1_feed_62 rfl ?_
        refine z_icmp_ge X 72 dX1_feed_64 rfl i1 (by decide) (fun c6 => ?_) (fun c6 => ?_)
        · have h := h.1 c6
          refine z_lload X 4 dX1_feed_72 rfl ?_
          exact z_sub [0, 1, 2, 3, 4, 5] rfl (wkc_X1_feed_74 X K hR hC28 _ _ _ _ _ _ _ _ h)
        · have h := h.2 c6
          refine z_lload X 3 dX1_feed_67 rfl ?_
          refine z_goto (tgt := 74) X dX1_feed_69 rfl ?_
          exact z_sub [0, 1, 2, 3, 4, 5] rfl (wkc_X1_feed_74 X K hR hC28 _ _ _ _ _ _ _ _ h)
      · have h := h.2 c5
        refine z_lload_n X 2 dX1_feed_56 rfl ?_
        refine z_goto (tgt := 74) X dX1_feed_57 rfl ?_
        exact z_sub [0, 1, 2, 3, 4, 5] rfl (wkc_X1_feed_74 X K hR hC28 _ _ _ _ _ _ _ _ h)
set_option maxRecDepth 100000 in
theorem mtc_X1_feed (l : Launch) (D : va_G) (ds : Nat → ClassId) (ad : Nat → Nat) (a0 : Int) (a1 : Int64) (a2 : Int64) (a3 : Int64) (σ : ZS) (post : Int → ZS → Prop) (h : wc_X1_feed a0 a1 a2 a3 σ post) : ZMetI l (ΘC D ds ad) yX1_feed cX1_feed 9 .int 2 24 0 0 [.ref (ad 0), .int (iz a0), .long a1, .long a2, .long a3] σ post := by
  refine ZMetI.of (by decide) (Nat.le_of_ble_eq_true rfl) (fun Γ X K hR => ?_)
  have X : ZX Γ cX1_feed RX1 2 24 := X
  refine z_sub [0, 1, 2, 3, 4] (lv' := [(0, .ref (ad 0)), (1, .int (iz a0)), (2, .long a1), (4, .long a2), (6, .long a3)]) rfl ?_
  refine z_iload_n X 1 dX1_feed_0 rfl ?_
  refine z_iconst X 1 dX1_feed_1 ?_
  obtain ⟨i1, h⟩ := h
  refine z_icmp_lt X 23 dX1_feed_2 rfl i1 (by decide) (fun c2 => ?_) (fun c2 => ?_)
  · have h := h.1 c2
    refine z_iconst X (-1) dX1_feed_23 ?_
    exact hR _ _ _ _ _ _ _ dX1_feed_24 rfl (Nat.le_refl 0) (Nat.le_refl 0) h
  · have h := h.2 c2
    refine z_iload_n X 1 dX1_feed_5 rfl ?_
    refine z_bipush X 24 dX1_feed_6 rfl ?_
    refine z_icmp_gt X 23 dX1_feed_8 rfl i1 (by decide) (fun c3 => ?_) (fun c3 => ?_)
    · have h := h.1 c3
      refine z_iconst X (-1) dX1_feed_23 ?_
      exact hR _ _ _ _ _ _ _ dX1_feed_24 rfl (Nat.le_refl 0) (Nat.le_refl 0) h
    · have h := h.2 c3
      refine z_aload_n X 0 dX1_feed_11 rfl ?_
      refine gC_X1_95_X1 X K dX1_feed_12 ?_
      refine z_iload_n X 1 dX1_feed_15 rfl ?_
      refine z_iadd X dX1_feed_16 ?_
      refine z_sipush X 3200 dX1_feed_17 rfl ?_
      obtain ⟨i4, h⟩ := h
      refine z_icmp_le X 25 dX1_feed_20 rfl i4 (by decide) (fun c5 => ?_) (fun c5 => ?_)
      · have h := h.1 c5
        refine z_iconst X 0 dX1_feed_25 ?_
        refine z_istoreK X K (lv' := [(8, .int (iz 0)), (0, .ref (ad 0)), (1, .int (iz a0)), (2, .long a1), (4, .long a2), (6, .long a3)]) dX1_feed_26 rfl rfl ?_
        obtain ⟨N, h⟩ := h
        exact z_sub [1, 2, 3, 4, 5, 0] rfl (wkc_X1_feed_28 X K hR N _ _ _ _ _ _ h)
      · have h := h.2 c5
        refine z_iconst X (-1) dX1_feed_23 ?_
        exact hR _ _ _ _ _ _ _ dX1_feed_24 rfl (Nat.le_refl 0) (Nat.le_refl 0) h
/- X1_take -/
set_option maxRecDepth 100000 in
theorem mtc_X1_take (l : Launch) (D : va_G) (ds : Nat → ClassId) (ad : Nat → Nat) (σ : ZS) (post : Int → ZS → Prop) (h : wc_X1_take  σ post) : ZMetI l (ΘC D ds ad) yX1_take cX1_take 2 .int 2 24 0 0 [.ref (ad 0)] σ post := by
  refine ZMetI.of (by decide) (Nat.le_of_ble_eq_true rfl) (fun Γ X K hR => ?_)
  have X : ZX Γ cX1_take RX1 2 24 := X
  refine z_sub [0] (lv' := [(0, .ref (ad 0))]) rfl ?_
  refine z_aload_n X 0 dX1_take_0 rfl ?_
  refine gC_X1_95_X1 X K dX1_take_1 ?_
  refine z_topi (fun v1_1 ev1_1 => ?_)
  have h := h v1_1 ev1_1
  refine z_istore_nK X K (lv' := [(1, .int (iz v1_1)), (0, .ref (ad 0))]) dX1_take_4 rfl rfl ?_
  refine z_aload_n X 1 dX1_take_5 rfl ?_
  refine z_iconst X 0 dX1_take_6 ?_
  refine pC_X1_95_X1 X K dX1_take_7 (fun σ2 eσ2 => ?_)
  have h := h σ2 eσ2
  refine z_iload_n X 0 dX1_take_10 rfl ?_
  exact hR _ _ _ _ _ _ _ dX1_take_11 rfl (Nat.le_refl 0) (Nat.le_refl 0) h
/- X1_gathers -/
theorem clc_X1_172 {Γ : ZG} {cc : ByteArray} {fr lo nL mc0 ms0 k n pc : Nat} {xs : va_W} {lv : List (Nat × Value)} {st : List Value} {l : Launch} {D : va_G} {ds : Nat → ClassId} {ad : Nat → Nat} {a0 : Int} {σ : ZS} {post : Int → ZS → Prop} (X : ZX Γ cc RX1 fr lo) (K : ZCap Γ l (ΘC D ds ad) nL mc0 ms0) {o : Nat} (ho : isSy o) (hrm : zroom 3 45 fr lo = true) (h : wc_X5_of o a0 σ post) (hst : (st.map fun v => v.category).sum ≤ 8) (d : decode cc pc = .ok (.invokevirtual 172, 3)) (hcs : k ≤ mc0 ∧ n ≤ ms0) (kk : ∀ (r : Int) (σ' : ZS), post r σ' → Z Γ k n σ' xs (pc + 3) lv (.int (iz r) :: st)) : Z Γ k n σ xs pc lv (.int (iz a0) :: .ref (ad o) :: st) := 
  z_callVI' (C := RX5) (q0 := o) X K (mtc_X5_of l D ds ad o a0 σ post h) (isSy_75 ho) (LC_sy ho) rfl rfl (lw_V q913 q914 q915 q115 q916) ⟨rfl, by decide, by decide, rfl⟩ (zroom_of (zroom_le hrm (by decide))) ⟨by rw [K.2.2.2.1]; exact hcs.1, by rw [K.2.2.2.2]; exact hcs.2⟩ hst d rfl kk
set_option maxRecDepth 100000 in
theorem wkc_X1_gathers_9 {Γ : ZG} {l : Launch} {D : va_G} {ds : Nat → ClassId} {ad : Nat → Nat} {post : Int → ZS → Prop} {q0 : Nat} (X : ZX Γ cX1_gathers RX1 3 45) (K : ZCap Γ l (ΘC D ds ad) 5 0 0) (hR : ZRetI Γ cX1_gathers .int 0 0 post) (hq0 : isSy q0) : ∀ (N : Nat) (v2 : Int) (v3 : Int) (v4 : Int) (σ : ZS), zfix (wbc_X1_gathers_9 q0 post) N (v2, v3, v4, σ) → Z Γ 0 0 σ [] 9 [(0, .ref (ad 0)), (1, .ref (ad q0)), (2, .int (iz v2)), (3, .int (iz v3)), (4, .int (iz v4))] [] := by
  intro N
  induction N with
  | zero => intro v2 v3 v4 σ h; exact False.elim h
  | succ N ih =>
    intro v2 v3 v4 σ h
    have h : wbc_X1_gathers_9 q0 post (zfix (wbc_X1_gathers_9 q0 post) N) (v2, v3, v4, σ) := h
    have hC9 := ih
    clear ih
    generalize zfix (wbc_X1_gathers_9 q0 post) N = C9 at h hC9
    dsimp only [wbc_X1_gathers_9] at h
    refine z_iload X 4 dX1_gathers_9 rfl ?_
    refine z_iload_n X 3 dX1_gathers_11 rfl ?_
    obtain ⟨i1, h⟩ := h
    obtain ⟨i2, h⟩ := h
    refine z_icmp_ge X 45 dX1_gathers_12 rfl i1 i2 (fun c3 => ?_) (fun c3 => ?_)
    · have h := h.1 c3
      refine z_iload_n X 3 dX1_gathers_45 rfl ?_
      exact hR _ _ _ _ _ _ _ dX1_gathers_46 rfl (Nat.le_refl 0) (Nat.le_refl 0) h
    · have h := h.2 c3
      refine z_aload_n X 0 dX1_gathers_15 rfl ?_
      refine gC_X1_25_X1 X K dX1_gathers_16 ?_
      refine gC_X1_176_X3 X K dX1_gathers_19 ?_
      refine z_iload X 4 dX1_gathers_22 rfl ?_
      refine z_aload_n X 0 dX1_gathers_24 rfl ?_
      refine gC_X1_59_X1 X K dX1_gathers_25 ?_
      refine z_iload_n X 2 dX1_gathers_28 rfl ?_
      refine z_iload X 4 dX1_gathers_29 rfl ?_
      refine z_aload_n X 1 dX1_gathers_31 rfl ?_
      refine gC_X1_144_X5 X K hq0 dX1_gathers_32 ?_
      refine z_imul X dX1_gathers_35 ?_
      refine z_iadd X dX1_gathers_36 ?_
      obtain ⟨x4, h⟩ := h
      refine z_ald' X K 74 (Nat.le_of_ble_eq_true rfl) rfl rfl (Nat.le_of_ble_eq_true rfl) dX1_gathers_37 x4 ?_
      obtain ⟨x5, h⟩ := h
      refine z_ast' X K 39 (Nat.le_of_ble_eq_true rfl) rfl rfl (Nat.le_of_ble_eq_true rfl) dX1_gathers_38 x5 (fun σ6 eσ6 => ?_)
      have h := h σ6 eσ6
      refine z_iincK X K 4 (lv' := [(4, .int (iz (v4 + 1))), (0, .ref (ad 0)), (1, .ref (ad q0)), (2, .int (iz v2)), (3, .int (iz v3))]) dX1_gathers_39 rfl rfl rfl ?_
      refine z_goto (tgt := 9) X dX1_gathers_42 rfl ?_
      exact z_sub [1, 2, 3, 4, 0] rfl (hC9 _ _ _ _ h)
set_option maxRecDepth 100000 in
theorem mtc_X1_gathers (l : Launch) (D : va_G) (ds : Nat → ClassId) (ad : Nat → Nat) (q0 : Nat) (a1 : Int) (σ : ZS) (post : Int → ZS → Prop) (h : wc_X1_gathers q0 a1 σ post) : ZMetI l (ΘC D ds ad) yX1_gathers cX1_gathers 5 .int 3 45 0 0 [.ref (ad 0), .ref (ad q0), .int (iz a1)] σ post := by
  refine ZMetI.of (by decide) (Nat.le_of_ble_eq_true rfl) (fun Γ X K hR => ?_)
  have X : ZX Γ cX1_gathers RX1 3 45 := X
  refine z_sub [0, 1, 2] (lv' := [(0, .ref (ad 0)), (1, .ref (ad q0)), (2, .int (iz a1))]) rfl ?_
  obtain ⟨hq0, h⟩ := h
  refine z_aload_n X 1 dX1_gathers_0 rfl ?_
  refine z_iload_n X 2 dX1_gathers_1 rfl ?_
  refine clc_X1_172 X K hq0 rfl h (Nat.le_of_ble_eq_true rfl) dX1_gathers_2 ⟨Nat.zero_le _, Nat.zero_le _⟩ (fun r2 σ1 h => ?_)
  refine z_istore_nK X K (lv' := [(3, .int (iz r2)), (0, .ref (ad 0)), (1, .ref (ad q0)), (2, .int (iz a1))]) dX1_gathers_5 rfl rfl ?_
  refine z_iconst X 0 dX1_gathers_6 ?_
  refine z_istoreK X K (lv' := [(4, .int (iz 0)), (3, .int (iz r2)), (0, .ref (ad 0)), (1, .ref (ad q0)), (2, .int (iz a1))]) dX1_gathers_7 rfl rfl ?_
  obtain ⟨N, h⟩ := h
  exact z_sub [2, 3, 4, 1, 0] rfl (wkc_X1_gathers_9 X K hR hq0 N _ _ _ _ h)
/- X1_spreads -/
set_option maxRecDepth 100000 in
theorem wkc_X1_spreads_3 {Γ : ZG} {l : Launch} {D : va_G} {ds : Nat → ClassId} {ad : Nat → Nat} {post : ZS → Prop} {q0 : Nat} (X : ZX Γ cX1_spreads RX1 2 24) (K : ZCap Γ l (ΘC D ds ad) 5 0 0) (hR : ZRetV Γ cX1_spreads 0 0 post) (hq0 : isSy q0) : ∀ (N : Nat) (v2 : Int) (v3 : Int) (v4 : Int) (σ : ZS), zfix (wbc_X1_spreads_3 q0 post) N (v2, v3, v4, σ) → Z Γ 0 0 σ [] 3 [(0, .ref (ad 0)), (1, .ref (ad q0)), (2, .int (iz v2)), (3, .int (iz v3)), (4, .int (iz v4))] [] := by
  intro N
  induction N with
  | zero => intro v2 v3 v4 σ h; exact False.elim h
  | succ N ih =>
    intro v2 v3 v4 σ h
    have h : wbc_X1_spreads_3 q0 post (zfix (wbc_X1_spreads_3 q0 post) N) (v2, v3, v4, σ) := h
    have hC3 := ih
    clear ih
    generalize zfix (wbc_X1_spreads_3 q0 post) N = C3 at h hC3
    dsimp only [wbc_X1_spreads_3] at h
    refine z_iload X 4 dX1_spreads_3 rfl ?_
    refine z_iload_n X 3 dX1_spreads_5 rfl ?_
    obtain ⟨i1, h⟩ := h
    obtain ⟨i2, h⟩ := h
    refine z_icmp_ge X 39 dX1_spreads_6 rfl i1 i2 (fun c3 => ?_) (fun c3 => ?_)
    · have h := h.1 c3
      exact hR _ _ _ _ _ _ dX1_spreads_39 (Nat.le_refl 0) (Nat.le_refl 0) h
    · have h := h.2 c3
      refine z_aload_n X 0 dX1_spreads_9 rfl ?_
      refine gC_X1_59_X1 X K dX1_spreads_10 ?_
      refine z_iload_n X 2 dX1_spreads_13 rfl ?_
      refine z_iload X 4 dX1_spreads_14 rfl ?_
      refine z_aload_n X 1 dX1_spreads_16 rfl ?_
      refine gC_X1_144_X5 X K hq0 dX1_spreads_17 ?_
      refine z_imul X dX1_spreads_20 ?_
      refine z_iadd X dX1_spreads_21 ?_
      refine z_aload_n X 0 dX1_spreads_22 rfl ?_
      refine gC_X1_25_X1 X K dX1_spreads_23 ?_
      refine gC_X1_176_X3 X K dX1_spreads_26 ?_
      refine z_iload X 4 dX1_spreads_29 rfl ?_
      obtain ⟨x4, h⟩ := h
      refine z_ald' X K 39 (Nat.le_of_ble_eq_true rfl) rfl rfl (Nat.le_of_ble_eq_true rfl) dX1_spreads_31 x4 ?_
      obtain ⟨x5, h⟩ := h
      refine z_ast' X K 74 (Nat.le_of_ble_eq_true rfl) rfl rfl (Nat.le_of_ble_eq_true rfl) dX1_spreads_32 x5 (fun σ6 eσ6 => ?_)
      have h := h σ6 eσ6
      refine z_iincK X K 4 (lv' := [(4, .int (iz (v4 + 1))), (0, .ref (ad 0)), (1, .ref (ad q0)), (2, .int (iz v2)), (3, .int (iz v3))]) dX1_spreads_33 rfl rfl rfl ?_
      refine z_goto (tgt := 3) X dX1_spreads_36 rfl ?_
      exact z_sub [1, 2, 3, 4, 0] rfl (hC3 _ _ _ _ h)
set_option maxRecDepth 100000 in
theorem mtc_X1_spreads (l : Launch) (D : va_G) (ds : Nat → ClassId) (ad : Nat → Nat) (q0 : Nat) (a1 : Int) (a2 : Int) (σ : ZS) (post : ZS → Prop) (h : wc_X1_spreads q0 a1 a2 σ post) : ZMetV l (ΘC D ds ad) yX1_spreads cX1_spreads 5 2 24 0 0 [.ref (ad 0), .ref (ad q0), .int (iz a1), .int (iz a2)] σ post := by
  refine ZMetV.of (by decide) (Nat.le_of_ble_eq_true rfl) (fun Γ X K hR => ?_)
  have X : ZX Γ cX1_spreads RX1 2 24 := X
  refine z_sub [0, 1, 2, 3] (lv' := [(0, .ref (ad 0)), (1, .ref (ad q0)), (2, .int (iz a1)), (3, .int (iz a2))]) rfl ?_
  obtain ⟨hq0, h⟩ := h
  refine z_iconst X 0 dX1_spreads_0 ?_
  refine z_istoreK X K (lv' := [(4, .int (iz 0)), (0, .ref (ad 0)), (1, .ref (ad q0)), (2, .int (iz a1)), (3, .int (iz a2))]) dX1_spreads_1 rfl rfl ?_
  obtain ⟨N, h⟩ := h
  exact z_sub [1, 2, 3, 4, 0] rfl (wkc_X1_spreads_3 X K hR hq0 N _ _ _ _ h)
/- X1_place -/
theorem clc_X1_182 {Γ : ZG} {cc : ByteArray} {fr lo nL mc0 ms0 k n pc : Nat} {xs : va_W} {lv : List (Nat × Value)} {st : List Value} {l : Launch} {D : va_G} {ds : Nat → ClassId} {ad : Nat → Nat} {a0 : Int} {σ : ZS} {post : Int → ZS → Prop} (X : ZX Γ cc RX1 fr lo) (K : ZCap Γ l (ΘC D ds ad) nL mc0 ms0) {o : Nat} (ho : isSy o) (hrm : zroom 3 45 fr lo = true) (h : wc_X5_row o a0 σ post) (hst : (st.map fun v => v.category).sum ≤ 8) (d : decode cc pc = .ok (.invokevirtual 182, 3)) (hcs : k ≤ mc0 ∧ n ≤ ms0) (kk : ∀ (r : Int) (σ' : ZS), post r σ' → Z Γ k n σ' xs (pc + 3) lv (.int (iz r) :: st)) : Z Γ k n σ xs pc lv (.int (iz a0) :: .ref (ad o) :: st) := 
  z_callVI' (C := RX5) (q0 := o) X K (mtc_X5_row l D ds ad o a0 σ post h) (isSy_75 ho) (LC_sy ho) rfl rfl (lw_V q969 q970 q971 q115 q972) ⟨rfl, by decide, by decide, rfl⟩ (zroom_of (zroom_le hrm (by decide))) ⟨by rw [K.2.2.2.1]; exact hcs.1, by rw [K.2.2.2.2]; exact hcs.2⟩ hst d rfl kk
theorem clc_X1_185 {Γ : ZG} {cc : ByteArray} {fr lo nL mc0 ms0 k n pc : Nat} {xs : va_W} {lv : List (Nat × Value)} {st : List Value} {l : Launch} {D : va_G} {ds : Nat → ClassId} {ad : Nat → Nat} {a0 : Int} {σ : ZS} {post : Int → ZS → Prop} (X : ZX Γ cc RX1 fr lo) (K : ZCap Γ l (ΘC D ds ad) nL mc0 ms0) {o : Nat} (ho : isSy o) (hrm : zroom 3 45 fr lo = true) (h : wc_X5_column o a0 σ post) (hst : (st.map fun v => v.category).sum ≤ 8) (d : decode cc pc = .ok (.invokevirtual 185, 3)) (hcs : k ≤ mc0 ∧ n ≤ ms0) (kk : ∀ (r : Int) (σ' : ZS), post r σ' → Z Γ k n σ' xs (pc + 3) lv (.int (iz r) :: st)) : Z Γ k n σ xs pc lv (.int (iz a0) :: .ref (ad o) :: st) := 
  z_callVI' (C := RX5) (q0 := o) X K (mtc_X5_column l D ds ad o a0 σ post h) (isSy_75 ho) (LC_sy ho) rfl rfl (lw_V q973 q974 q975 q115 q976) ⟨rfl, by decide, by decide, rfl⟩ (zroom_of (zroom_le hrm (by decide))) ⟨by rw [K.2.2.2.1]; exact hcs.1, by rw [K.2.2.2.2]; exact hcs.2⟩ hst d rfl kk
set_option maxRecDepth 100000 in
theorem mtc_X1_place (l : Launch) (D : va_G) (ds : Nat → ClassId) (ad : Nat → Nat) (a0 : Int) (σ : ZS) (post : Int → ZS → Prop) (h : wc_X1_place a0 σ post) : ZMetI l (ΘC D ds ad) yX1_place cX1_place 2 .int 3 45 0 0 [.ref (ad 0), .int (iz a0)] σ post := by
  refine ZMetI.of (by decide) (Nat.le_of_ble_eq_true rfl) (fun Γ X K hR => ?_)
  have X : ZX Γ cX1_place RX1 3 45 := X
  refine z_sub [0, 1] (lv' := [(0, .ref (ad 0)), (1, .int (iz a0))]) rfl ?_
  refine z_aload_n X 0 dX1_place_0 rfl ?_
  obtain ⟨y1, h⟩ := h
  refine gC_X1_162_X1R X K y1 dX1_place_1 ?_
  refine z_iload_n X 1 dX1_place_4 rfl ?_
  refine z_aload_n X 0 dX1_place_5 rfl ?_
  refine gC_X1_162_X1R X K y1 dX1_place_6 ?_
  refine gC_X1_179_X5 X K (isSy_nn y1) dX1_place_9 ?_
  obtain ⟨i2, h⟩ := h
  obtain ⟨g3, h⟩ := h
  obtain ⟨i4, h⟩ := h
  obtain ⟨g5, h⟩ := h
  refine z_idiv X dX1_place_12 ⟨i2, i4, g3, g5⟩ ?_
  refine clc_X1_182 X K (isSy_nn y1) rfl h (Nat.le_of_ble_eq_true rfl) dX1_place_13 ⟨Nat.zero_le _, Nat.zero_le _⟩ (fun r7 σ6 h => ?_)
  refine z_sipush X 144 dX1_place_16 rfl ?_
  refine z_imul X dX1_place_19 ?_
  refine z_aload_n X 0 dX1_place_20 rfl ?_
  obtain ⟨y8, h⟩ := h
  refine gC_X1_162_X1R X K y8 dX1_place_21 ?_
  refine z_iload_n X 1 dX1_place_24 rfl ?_
  refine z_aload_n X 0 dX1_place_25 rfl ?_
  refine gC_X1_162_X1R X K y8 dX1_place_26 ?_
  refine gC_X1_179_X5 X K (isSy_nn y8) dX1_place_29 ?_
  obtain ⟨i9, h⟩ := h
  obtain ⟨g10, h⟩ := h
  refine z_irem X dX1_place_32 ⟨i2, i9, g3, g10⟩ ?_
  refine clc_X1_185 X K (isSy_nn y8) rfl h (Nat.le_of_ble_eq_true rfl) dX1_place_33 ⟨Nat.zero_le _, Nat.zero_le _⟩ (fun r12 σ11 h => ?_)
  refine z_iadd X dX1_place_36 ?_
  exact hR _ _ _ _ _ _ _ dX1_place_37 rfl (Nat.le_refl 0) (Nat.le_refl 0) h
/- X1_write -/
theorem clc_X1_213 {Γ : ZG} {cc : ByteArray} {fr lo nL mc0 ms0 k n pc : Nat} {xs : va_W} {lv : List (Nat × Value)} {st : List Value} {l : Launch} {D : va_G} {ds : Nat → ClassId} {ad : Nat → Nat} {a0 : Int} {σ : ZS} {post : Int → ZS → Prop} (X : ZX Γ cc RX1 fr lo) (K : ZCap Γ l (ΘC D ds ad) nL mc0 ms0) (hrm : zroom 4 66 fr lo = true) (h : wc_X1_place a0 σ post) (hst : (st.map fun v => v.category).sum ≤ 8) (d : decode cc pc = .ok (.invokevirtual 213, 3)) (hcs : k ≤ mc0 ∧ n ≤ ms0) (kk : ∀ (r : Int) (σ' : ZS), post r σ' → Z Γ k n σ' xs (pc + 3) lv (.int (iz r) :: st)) : Z Γ k n σ xs pc lv (.int (iz a0) :: .ref (ad 0) :: st) := 
  z_callVI' (C := RX1) (q0 := 0) X K (mtc_X1_place l D ds ad a0 σ post h) (Nat.le_of_ble_eq_true rfl) rfl rfl rfl (lw_V q965 q967 qs29 q108 q968) ⟨rfl, by decide, by decide, rfl⟩ (zroom_of (zroom_le hrm (by decide))) ⟨by rw [K.2.2.2.1]; exact hcs.1, by rw [K.2.2.2.2]; exact hcs.2⟩ hst d rfl kk
set_option maxRecDepth 100000 in
theorem wkc_X1_write_47 {Γ : ZG} {l : Launch} {D : va_G} {ds : Nat → ClassId} {ad : Nat → Nat} {post : ZS → Prop} (X : ZX Γ cX1_write RX1 4 66) (K : ZCap Γ l (ΘC D ds ad) 4 0 0) (hR : ZRetV Γ cX1_write 0 0 post) {C2 : Int × Int × Int × ZS → Prop} (hC2 : ∀ (v1 : Int) (v2 : Int) (v3 : Int) (σ : ZS), C2 (v1, v2, v3, σ) → Z Γ 0 0 σ [] 2 [(0, .ref (ad 0)), (1, .int (iz v1)), (2, .int (iz v2)), (3, .int (iz v3))] []) (v1 : Int) (v2 : Int) (v3 : Int) (t0 : Int) (t1 : Int) (σ : ZS) (h : wc_X1_write_47 C2 post v1 v2 v3 t0 t1 σ) : Z Γ 0 0 σ [] 47 [(0, .ref (ad 0)), (1, .int (iz v1)), (2, .int (iz v2)), (3, .int (iz v3))] [.int (iz t0), .int (iz t1), .ref (ad 73)] := by
  obtain ⟨x1, h⟩ := h
  obtain ⟨b3, h⟩ := h
  refine z_astZ' X K 73 (Nat.le_of_ble_eq_true rfl) rfl rfl (Nat.le_of_ble_eq_true rfl) dX1_write_47 x1 b3 (fun σ2 eσ2 => ?_)
  have h := h σ2 eσ2
  refine z_iincK X K 3 (lv' := [(3, .int (iz (v3 + 1))), (0, .ref (ad 0)), (1, .int (iz v1)), (2, .int (iz v2))]) dX1_write_48 rfl rfl rfl ?_
  refine z_goto (tgt := 2) X dX1_write_51 rfl ?_
  exact z_sub [1, 2, 3, 0] rfl (hC2 _ _ _ _ h)
set_option maxRecDepth 100000 in
theorem wkc_X1_write_2 {Γ : ZG} {l : Launch} {D : va_G} {ds : Nat → ClassId} {ad : Nat → Nat} {post : ZS → Prop} (X : ZX Γ cX1_write RX1 4 66) (K : ZCap Γ l (ΘC D ds ad) 4 0 0) (hR : ZRetV Γ cX1_write 0 0 post) : ∀ (N : Nat) (v1 : Int) (v2 : Int) (v3 : Int) (σ : ZS), zfix (wbc_X1_write_2 post) N (v1, v2, v3, σ) → Z Γ 0 0 σ [] 2 [(0, .ref (ad 0)), (1, .int (iz v1)), (2, .int (iz v2)), (3, .int (iz v3))] [] := by
  intro N
  induction N with
  | zero => intro v1 v2 v3 σ h; exact False.elim h
  | succ N ih =>
    intro v1 v2 v3 σ h
    have h : wbc_X1_write_2 post (zfix (wbc_X1_write_2 post) N) (v1, v2, v3, σ) := h
    have hC2 := ih
    clear ih
    generalize zfix (wbc_X1_write_2 post) N = C2 at h hC2
    dsimp only [wbc_X1_write_2] at h
    refine z_iload_n X 3 dX1_write_2 rfl ?_
    refine z_bipush X 8 dX1_write_3 rfl ?_
    obtain ⟨i1, h⟩ := h
    refine z_icmp_ge X 54 dX1_write_5 rfl i1 (by decide) (fun c2 => ?_) (fun c2 => ?_)
    · have h := h.1 c2
      exact hR _ _ _ _ _ _ dX1_write_54 (Nat.le_refl 0) (Nat.le_refl 0) h
    · have h := h.2 c2
      refine z_aload_n X 0 dX1_write_8 rfl ?_
      refine gC_X1_55_X1 X K dX1_write_9 ?_
      refine z_aload_n X 0 dX1_write_12 rfl ?_
      refine z_aload_n X 0 dX1_write_13 rfl ?_
      refine gC_X1_18_X1 X K dX1_write_14 ?_
      refine gC_X1_216_X2 X K dX1_write_17 ?_
      refine z_bipush X 8 dX1_write_20 rfl ?_
      refine z_iload_n X 1 dX1_write_22 rfl ?_
      refine z_imul X dX1_write_23 ?_
      refine z_iload_n X 3 dX1_write_24 rfl ?_
      refine z_iadd X dX1_write_25 ?_
      obtain ⟨x3, h⟩ := h
      refine z_ald' X K 33 (Nat.le_of_ble_eq_true rfl) rfl rfl (Nat.le_of_ble_eq_true rfl) dX1_write_26 x3 ?_
      refine clc_X1_213 X K rfl h (Nat.le_of_ble_eq_true rfl) dX1_write_27 ⟨Nat.zero_le _, Nat.zero_le _⟩ (fun r5 σ4 h => ?_)
      refine z_iload_n X 2 dX1_write_30 rfl ?_
      refine z_bipush X 7 dX1_write_31 rfl ?_
      refine z_iload_n X 3 dX1_write_33 rfl ?_
      refine z_isub X dX1_write_34 ?_
      refine z_ishr X dX1_write_35 ?_
      refine z_iconst X 1 dX1_write_36 ?_
      refine z_iandm X 1 (M := 2) rfl rfl rfl dX1_write_37 ?_
      refine z_iconst X 1 dX1_write_38 ?_
      obtain ⟨i6, h⟩ := h
      refine z_icmp_ne X 46 dX1_write_39 rfl i6 (by decide) (fun c7 => ?_) (fun c7 => ?_)
      · have h := h.1 c7
        refine z_iconst X 0 dX1_write_46 ?_
        exact z_sub [0, 1, 2, 3] rfl (wkc_X1_write_47 X K hR hC2 _ _ _ _ _ _ h)
      · have h := h.2 c7
        refine z_iconst X 1 dX1_write_42 ?_
        refine z_goto (tgt := 47) X dX1_write_43 rfl ?_
        exact z_sub [0, 1, 2, 3] rfl (wkc_X1_write_47 X K hR hC2 _ _ _ _ _ _ h)
set_option maxRecDepth 100000 in
theorem mtc_X1_write (l : Launch) (D : va_G) (ds : Nat → ClassId) (ad : Nat → Nat) (a0 : Int) (a1 : Int) (σ : ZS) (post : ZS → Prop) (h : wc_X1_write a0 a1 σ post) : ZMetV l (ΘC D ds ad) yX1_write cX1_write 4 4 66 0 0 [.ref (ad 0), .int (iz a0), .int (iz a1)] σ post := by
  refine ZMetV.of (by decide) (Nat.le_of_ble_eq_true rfl) (fun Γ X K hR => ?_)
  have X : ZX Γ cX1_write RX1 4 66 := X
  refine z_sub [0, 1, 2] (lv' := [(0, .ref (ad 0)), (1, .int (iz a0)), (2, .int (iz a1))]) rfl ?_
  refine z_iconst X 0 dX1_write_0 ?_
  refine z_istore_nK X K (lv' := [(3, .int (iz 0)), (0, .ref (ad 0)), (1, .int (iz a0)), (2, .int (iz a1))]) dX1_write_1 rfl rfl ?_
  obtain ⟨N, h⟩ := h
  exact z_sub [1, 2, 3, 0] rfl (wkc_X1_write_2 X K hR N _ _ _ _ h)
/- X1_wordAt -/
set_option maxRecDepth 100000 in
theorem wkc_X1_wordAt_44 {Γ : ZG} {l : Launch} {D : va_G} {ds : Nat → ClassId} {ad : Nat → Nat} {post : Int → ZS → Prop} (X : ZX Γ cX1_wordAt RX1 4 66) (K : ZCap Γ l (ΘC D ds ad) 4 0 0) (hR : ZRetI Γ cX1_wordAt .int 0 0 post) {C4 : Int × Int × Int × ZS → Prop} (hC4 : ∀ (v1 : Int) (v2 : Int) (v3 : Int) (σ : ZS), C4 (v1, v2, v3, σ) → Z Γ 0 0 σ [] 4 [(0, .ref (ad 0)), (1, .int (iz v1)), (2, .int (iz v2)), (3, .int (iz v3))] []) (v1 : Int) (v3 : Int) (t0 : Int) (t1 : Int) (σ : ZS) (h : wc_X1_wordAt_44 C4 post v1 v3 t0 t1 σ) : Z Γ 0 0 σ [] 44 [(0, .ref (ad 0)), (1, .int (iz v1)), (3, .int (iz v3))] [.int (iz t0), .int (iz t1)] := by
  refine z_iadd X dX1_wordAt_44 ?_
  refine z_topi (fun v2_1 ev2_1 => ?_)
  have h := h v2_1 ev2_1
  refine z_istore_nK X K (lv' := [(2, .int (iz v2_1)), (0, .ref (ad 0)), (1, .int (iz v1)), (3, .int (iz v3))]) dX1_wordAt_45 rfl rfl ?_
  refine z_iincK X K 3 (lv' := [(3, .int (iz (v3 + 1))), (2, .int (iz v2_1)), (0, .ref (ad 0)), (1, .int (iz v1))]) dX1_wordAt_46 rfl rfl rfl ?_
  refine z_goto (tgt := 4) X dX1_wordAt_49 rfl ?_
  exact z_sub [2, 3, 1, 0] rfl (hC4 _ _ _ _ h)
set_option maxRecDepth 100000 in
theorem wkc_X1_wordAt_4 {Γ : ZG} {l : Launch} {D : va_G} {ds : Nat → ClassId} {ad : Nat → Nat} {post : Int → ZS → Prop} (X : ZX Γ cX1_wordAt RX1 4 66) (K : ZCap Γ l (ΘC D ds ad) 4 0 0) (hR : ZRetI Γ cX1_wordAt .int 0 0 post) : ∀ (N : Nat) (v1 : Int) (v2 : Int) (v3 : Int) (σ : ZS), zfix (wbc_X1_wordAt_4 post) N (v1, v2, v3, σ) → Z Γ 0 0 σ [] 4 [(0, .ref (ad 0)), (1, .int (iz v1)), (2, .int (iz v2)), (3, .int (iz v3))] [] := by
  intro N
  induction N with
  | zero => intro v1 v2 v3 σ h; exact False.elim h
  | succ N ih =>
    intro v1 v2 v3 σ h
    have h : wbc_X1_wordAt_4 post (zfix (wbc_X1_wordAt_4 post) N) (v1, v2, v3, σ) := h
    have hC4 := ih
    clear ih
    generalize zfix (wbc_X1_wordAt_4 post) N = C4 at h hC4
    dsimp only [wbc_X1_wordAt_4] at h
    refine z_iload_n X 3 dX1_wordAt_4 rfl ?_
    refine z_bipush X 8 dX1_wordAt_5 rfl ?_
    obtain ⟨i1, h⟩ := h
    refine z_icmp_ge X 52 dX1_wordAt_7 rfl i1 (by decide) (fun c2 => ?_) (fun c2 => ?_)
    · have h := h.1 c2
      refine z_iload_n X 2 dX1_wordAt_52 rfl ?_
      exact hR _ _ _ _ _ _ _ dX1_wordAt_53 rfl (Nat.le_refl 0) (Nat.le_refl 0) h
    · have h := h.2 c2
      refine z_iconst X 2 dX1_wordAt_10 ?_
      refine z_iload_n X 2 dX1_wordAt_11 rfl ?_
      refine z_imul X dX1_wordAt_12 ?_
      refine z_aload_n X 0 dX1_wordAt_13 rfl ?_
      refine gC_X1_55_X1 X K dX1_wordAt_14 ?_
      refine z_aload_n X 0 dX1_wordAt_17 rfl ?_
      refine z_aload_n X 0 dX1_wordAt_18 rfl ?_
      refine gC_X1_18_X1 X K dX1_wordAt_19 ?_
      refine gC_X1_216_X2 X K dX1_wordAt_22 ?_
      refine z_bipush X 8 dX1_wordAt_25 rfl ?_
      refine z_iload_n X 1 dX1_wordAt_27 rfl ?_
      refine z_imul X dX1_wordAt_28 ?_
      refine z_iload_n X 3 dX1_wordAt_29 rfl ?_
      refine z_iadd X dX1_wordAt_30 ?_
      obtain ⟨x3, h⟩ := h
      refine z_ald' X K 33 (Nat.le_of_ble_eq_true rfl) rfl rfl (Nat.le_of_ble_eq_true rfl) dX1_wordAt_31 x3 ?_
      refine clc_X1_213 X K rfl h (Nat.le_of_ble_eq_true rfl) dX1_wordAt_32 ⟨Nat.zero_le _, Nat.zero_le _⟩ (fun r5 σ4 h => ?_)
      obtain ⟨x6, h⟩ := h
      refine z_aldZ' X K 73 (Nat.le_of_ble_eq_true rfl) rfl rfl (Nat.le_of_ble_eq_true rfl) dX1_wordAt_35 x6 ?_
      obtain ⟨i7, h⟩ := h
      refine z_if_eq X 43 dX1_wordAt_36 rfl i7 (fun c8 => ?_) (fun c8 => ?_)
      · have h := h.1 c8
        refine z_iconst X 0 dX1_wordAt_43 ?_
        exact z_sub [0, 1, 3] rfl (wkc_X1_wordAt_44 X K hR hC4 _ _ _ _ _ h)
      · have h := h.2 c8
        refine z_iconst X 1 dX1_wordAt_39 ?_
        refine z_goto (tgt := 44) X dX1_wordAt_40 rfl ?_
        exact z_sub [0, 1, 3] rfl (wkc_X1_wordAt_44 X K hR hC4 _ _ _ _ _ h)
set_option maxRecDepth 100000 in
theorem mtc_X1_wordAt (l : Launch) (D : va_G) (ds : Nat → ClassId) (ad : Nat → Nat) (a0 : Int) (σ : ZS) (post : Int → ZS → Prop) (h : wc_X1_wordAt a0 σ post) : ZMetI l (ΘC D ds ad) yX1_wordAt cX1_wordAt 4 .int 4 66 0 0 [.ref (ad 0), .int (iz a0)] σ post := by
  refine ZMetI.of (by decide) (Nat.le_of_ble_eq_true rfl) (fun Γ X K hR => ?_)
  have X : ZX Γ cX1_wordAt RX1 4 66 := X
  refine z_sub [0, 1] (lv' := [(0, .ref (ad 0)), (1, .int (iz a0))]) rfl ?_
  refine z_iconst X 0 dX1_wordAt_0 ?_
  refine z_istore_nK X K (lv' := [(2, .int (iz 0)), (0, .ref (ad 0)), (1, .int (iz a0))]) dX1_wordAt_1 rfl rfl ?_
  refine z_iconst X 0 dX1_wordAt_2 ?_
  refine z_istore_nK X K (lv' := [(3, .int (iz 0)), (2, .int (iz 0)), (0, .ref (ad 0)), (1, .int (iz a0))]) dX1_wordAt_3 rfl rfl ?_
  obtain ⟨N, h⟩ := h
  exact z_sub [2, 3, 1, 0] rfl (wkc_X1_wordAt_4 X K hR N _ _ _ _ h)
/- X1_load -/
theorem clc_X1_99 {Γ : ZG} {cc : ByteArray} {fr lo nL mc0 ms0 k n pc : Nat} {xs : va_W} {lv : List (Nat × Value)} {st : List Value} {l : Launch} {D : va_G} {ds : Nat → ClassId} {ad : Nat → Nat} {σ : ZS} {post : Int → ZS → Prop} (X : ZX Γ cc RX1 fr lo) (K : ZCap Γ l (ΘC D ds ad) nL mc0 ms0) (hrm : zroom 3 45 fr lo = true) (h : wc_X1_take σ post) (hst : (st.map fun v => v.category).sum ≤ 8) (d : decode cc pc = .ok (.invokevirtual 99, 3)) (hcs : k ≤ mc0 ∧ n ≤ ms0) (kk : ∀ (r : Int) (σ' : ZS), post r σ' → Z Γ k n σ' xs (pc + 3) lv (.int (iz r) :: st)) : Z Γ k n σ xs pc lv (.ref (ad 0) :: st) := 
  z_callVI' (C := RX1) (q0 := 0) X K (mtc_X1_take l D ds ad  σ post h) (Nat.le_of_ble_eq_true rfl) rfl rfl rfl (lw_V q583 q585 qs3 q108 q586) ⟨rfl, by decide, by decide, rfl⟩ (zroom_of (zroom_le hrm (by decide))) ⟨by rw [K.2.2.2.1]; exact hcs.1, by rw [K.2.2.2.2]; exact hcs.2⟩ hst d rfl kk
set_option maxRecDepth 100000 in
theorem wkc_X1_load_132 {Γ : ZG} {l : Launch} {D : va_G} {ds : Nat → ClassId} {ad : Nat → Nat} {post : Int → ZS → Prop} (X : ZX Γ cX1_load RX1 3 45) (K : ZCap Γ l (ΘC D ds ad) 4 0 0) (hR : ZRetI Γ cX1_load .boolean 0 0 (fun r σ => (r = 0 ∨ r = 1) ∧ post r σ)) {C58 : Int × ZS → Prop} (hC58 : ∀ (v3 : Int) (σ : ZS), C58 (v3, σ) → Z Γ 0 0 σ [] 58 [(0, .ref (ad 0)), (3, .int (iz v3))] []) (v3 : Int) (t0 : Int) (t1 : Int) (σ : ZS) (h : wc_X1_load_132 C58 post v3 t0 t1 σ) : Z Γ 0 0 σ [] 132 [(0, .ref (ad 0)), (3, .int (iz v3))] [.int (iz t0), .int (iz t1), .ref (ad 73)] := by
  obtain ⟨x1, h⟩ := h
  obtain ⟨b3, h⟩ := h
  refine z_astZ' X K 73 (Nat.le_of_ble_eq_true rfl) rfl rfl (Nat.le_of_ble_eq_true rfl) dX1_load_132 x1 b3 (fun σ2 eσ2 => ?_)
  have h := h σ2 eσ2
  refine z_iincK X K 1 (lv' := [(3, .int (iz (v3 + 1))), (0, .ref (ad 0))]) dX1_load_133 rfl rfl rfl ?_
  refine z_goto (tgt := 58) X dX1_load_136 rfl ?_
  exact z_sub [1, 0] rfl (hC58 _ _ h)
set_option maxRecDepth 100000 in
theorem wkc_X1_load_58 {Γ : ZG} {l : Launch} {D : va_G} {ds : Nat → ClassId} {ad : Nat → Nat} {post : Int → ZS → Prop} (X : ZX Γ cX1_load RX1 3 45) (K : ZCap Γ l (ΘC D ds ad) 4 0 0) (hR : ZRetI Γ cX1_load .boolean 0 0 (fun r σ => (r = 0 ∨ r = 1) ∧ post r σ)) : ∀ (N : Nat) (v3 : Int) (σ : ZS), zfix (wbc_X1_load_58 post) N (v3, σ) → Z Γ 0 0 σ [] 58 [(0, .ref (ad 0)), (3, .int (iz v3))] [] := by
  intro N
  induction N with
  | zero => intro v3 σ h; exact False.elim h
  | succ N ih =>
    intro v3 σ h
    have h : wbc_X1_load_58 post (zfix (wbc_X1_load_58 post) N) (v3, σ) := h
    have hC58 := ih
    clear ih
    generalize zfix (wbc_X1_load_58 post) N = C58 at h hC58
    dsimp only [wbc_X1_load_58] at h
    refine z_iload_n X 1 dX1_load_58 rfl ?_
    refine z_aload_n X 0 dX1_load_59 rfl ?_
    obtain ⟨y1, h⟩ := h
    refine gC_X1_162_X1R X K y1 dX1_load_60 ?_
    refine gC_X1_192_X5 X K (isSy_nn y1) dX1_load_63 ?_
    refine z_aload_n X 0 dX1_load_66 rfl ?_
    refine gC_X1_162_X1R X K y1 dX1_load_67 ?_
    refine gC_X1_195_X5 X K (isSy_nn y1) dX1_load_70 ?_
    refine z_imul X dX1_load_73 ?_
    obtain ⟨i2, h⟩ := h
    obtain ⟨i3, h⟩ := h
    refine z_icmp_ge X 139 dX1_load_74 rfl i2 i3 (fun c4 => ?_) (fun c4 => ?_)
    · have h := h.1 c4
      refine z_iconst X 1 dX1_load_139 ?_
      exact hR _ _ _ _ _ _ _ dX1_load_140 (z_nb (Or.inr rfl)) (Nat.le_refl 0) (Nat.le_refl 0) ⟨(Or.inr rfl), h⟩
    · have h := h.2 c4
      refine z_aload_n X 0 dX1_load_77 rfl ?_
      refine gC_X1_55_X1 X K dX1_load_78 ?_
      refine z_iload_n X 1 dX1_load_81 rfl ?_
      refine z_aload_n X 0 dX1_load_82 rfl ?_
      refine gC_X1_162_X1R X K y1 dX1_load_83 ?_
      refine gC_X1_195_X5 X K (isSy_nn y1) dX1_load_86 ?_
      obtain ⟨g5, h⟩ := h
      obtain ⟨i6, h⟩ := h
      obtain ⟨g7, h⟩ := h
      refine z_idiv X dX1_load_89 ⟨i2, i6, g5, g7⟩ ?_
      refine z_sipush X 144 dX1_load_90 rfl ?_
      refine z_imul X dX1_load_93 ?_
      refine z_iload_n X 1 dX1_load_94 rfl ?_
      refine z_aload_n X 0 dX1_load_95 rfl ?_
      refine gC_X1_162_X1R X K y1 dX1_load_96 ?_
      refine gC_X1_195_X5 X K (isSy_nn y1) dX1_load_99 ?_
      refine z_irem X dX1_load_102 ⟨i2, i6, g5, g7⟩ ?_
      refine z_iadd X dX1_load_103 ?_
      refine z_aload_n X 0 dX1_load_104 rfl ?_
      refine gC_X1_48_X1 X K dX1_load_105 ?_
      refine z_iload_n X 1 dX1_load_108 rfl ?_
      refine z_bipush X 8 dX1_load_109 rfl ?_
      refine z_idiv X dX1_load_111 ⟨i2, (by decide), g5, (by decide)⟩ ?_
      obtain ⟨x8, h⟩ := h
      refine z_aldB' X K 71 (Nat.le_of_ble_eq_true rfl) rfl rfl (Nat.le_of_ble_eq_true rfl) dX1_load_112 x8 ?_
      refine z_bipush X 7 dX1_load_113 rfl ?_
      refine z_iload_n X 1 dX1_load_115 rfl ?_
      refine z_bipush X 8 dX1_load_116 rfl ?_
      refine z_irem X dX1_load_118 ⟨i2, (by decide), g5, (by decide)⟩ ?_
      refine z_isub X dX1_load_119 ?_
      refine z_ishr X dX1_load_120 ?_
      refine z_iconst X 1 dX1_load_121 ?_
      refine z_iandm X 1 (M := 2) rfl rfl rfl dX1_load_122 ?_
      refine z_iconst X 1 dX1_load_123 ?_
      obtain ⟨i9, h⟩ := h
      refine z_icmp_ne X 131 dX1_load_124 rfl i9 (by decide) (fun c10 => ?_) (fun c10 => ?_)
      · have h := h.1 c10
        refine z_iconst X 0 dX1_load_131 ?_
        exact z_sub [0, 1] rfl (wkc_X1_load_132 X K hR hC58 _ _ _ _ h)
      · have h := h.2 c10
        refine z_iconst X 1 dX1_load_127 ?_
        refine z_goto (tgt := 132) X dX1_load_128 rfl ?_
        exact z_sub [0, 1] rfl (wkc_X1_load_132 X K hR hC58 _ _ _ _ h)
set_option maxRecDepth 100000 in
theorem mtc_X1_load (l : Launch) (D : va_G) (ds : Nat → ClassId) (ad : Nat → Nat) (a0 : Int) (σ : ZS) (post : Int → ZS → Prop) (h : wc_X1_load a0 σ post) : ZMetI l (ΘC D ds ad) yX1_load cX1_load 4 .boolean 3 45 0 0 [.ref (ad 0), .int (iz a0)] σ (fun r σ => (r = 0 ∨ r = 1) ∧ post r σ) := by
  refine ZMetI.of (by decide) (Nat.le_of_ble_eq_true rfl) (fun Γ X K hR => ?_)
  have X : ZX Γ cX1_load RX1 3 45 := X
  refine z_sub [0, 1] (lv' := [(0, .ref (ad 0)), (1, .int (iz a0))]) rfl ?_
  refine z_aload_n X 0 dX1_load_0 rfl ?_
  refine clc_X1_99 X K rfl h (Nat.le_of_ble_eq_true rfl) dX1_load_1 ⟨Nat.zero_le _, Nat.zero_le _⟩ (fun r2 σ1 h => ?_)
  refine z_istore_nK X K (lv' := [(2, .int (iz r2)), (0, .ref (ad 0)), (1, .int (iz a0))]) dX1_load_4 rfl rfl ?_
  refine z_iload_n X 2 dX1_load_5 rfl ?_
  obtain ⟨i3, h⟩ := h
  refine z_if_lt X 44 dX1_load_6 rfl i3 (fun c4 => ?_) (fun c4 => ?_)
  · have h := h.1 c4
    refine z_iconst X 0 dX1_load_44 ?_
    exact hR _ _ _ _ _ _ _ dX1_load_45 (z_nb (Or.inl rfl)) (Nat.le_refl 0) (Nat.le_refl 0) ⟨(Or.inl rfl), h⟩
  · have h := h.2 c4
    refine z_iload_n X 2 dX1_load_9 rfl ?_
    refine z_bipush X 30 dX1_load_10 rfl ?_
    refine z_icmp_ge X 44 dX1_load_12 rfl i3 (by decide) (fun c5 => ?_) (fun c5 => ?_)
    · have h := h.1 c5
      refine z_iconst X 0 dX1_load_44 ?_
      exact hR _ _ _ _ _ _ _ dX1_load_45 (z_nb (Or.inl rfl)) (Nat.le_refl 0) (Nat.le_refl 0) ⟨(Or.inl rfl), h⟩
    · have h := h.2 c5
      refine z_iload_n X 0 dX1_load_15 rfl ?_
      refine z_aload_n X 1 dX1_load_16 rfl ?_
      refine gC_X1_11_X1 X K dX1_load_17 ?_
      refine z_iload_n X 2 dX1_load_20 rfl ?_
      obtain ⟨x6, h⟩ := h
      refine aC_symbols X K dX1_load_21 x6 ?_
      refine gC_X1_192_X5 X K (isSy_ix x6) dX1_load_22 ?_
      refine z_aload_n X 1 dX1_load_25 rfl ?_
      refine gC_X1_11_X1 X K dX1_load_26 ?_
      refine z_iload_n X 2 dX1_load_29 rfl ?_
      refine aC_symbols X K dX1_load_30 x6 ?_
      refine gC_X1_195_X5 X K (isSy_ix x6) dX1_load_31 ?_
      refine z_imul X dX1_load_34 ?_
      refine z_bipush X 7 dX1_load_35 rfl ?_
      refine z_iadd X dX1_load_37 ?_
      refine z_bipush X 8 dX1_load_38 rfl ?_
      obtain ⟨i7, h⟩ := h
      obtain ⟨g8, h⟩ := h
      refine z_idiv X dX1_load_40 ⟨i7, (by decide), g8, (by decide)⟩ ?_
      obtain ⟨i9, h⟩ := h
      obtain ⟨i10, h⟩ := h
      refine z_icmp_eq X 46 dX1_load_41 rfl i9 i10 (fun c11 => ?_) (fun c11 => ?_)
      · have h := h.1 c11
        refine z_aload_n X 1 dX1_load_46 rfl ?_
        refine z_aload_n X 1 dX1_load_47 rfl ?_
        refine gC_X1_11_X1 X K dX1_load_48 ?_
        refine z_iload_n X 2 dX1_load_51 rfl ?_
        refine aC_symbols X K dX1_load_52 x6 ?_
        refine pC_X1_162_X1 X K dX1_load_53 (fun σ12 eσ12 => ?_)
        have h := h σ12 eσ12
        refine z_iconst X 0 dX1_load_56 ?_
        refine z_istore_nK X K (lv' := [(3, .int (iz 0)), (2, .int (iz r2)), (0, .ref (ad 0)), (1, .int (iz a0))]) dX1_load_57 rfl rfl ?_
        obtain ⟨N, h⟩ := h
        exact z_sub [2, 0] rfl (wkc_X1_load_58 X K hR N _ _ h)
      · have h := h.2 c11
        refine z_iconst X 0 dX1_load_44 ?_
        exact hR _ _ _ _ _ _ _ dX1_load_45 (z_nb (Or.inl rfl)) (Nat.le_refl 0) (Nat.le_refl 0) ⟨(Or.inl rfl), h⟩
/- X1_letter -/
set_option maxRecDepth 100000 in
theorem mtc_X1_letter (l : Launch) (D : va_G) (ds : Nat → ClassId) (ad : Nat → Nat) (a0 : Int) (σ : ZS) (post : Int → ZS → Prop) (h : wc_X1_letter a0 σ post) : ZMetI l (ΘC D ds ad) yX1_letter cX1_letter 2 .int 2 24 0 0 [.ref (ad 0), .int (iz a0)] σ post := by
  refine ZMetI.of (by decide) (Nat.le_of_ble_eq_true rfl) (fun Γ X K hR => ?_)
  have X : ZX Γ cX1_letter RX1 2 24 := X
  refine z_sub [0, 1] (lv' := [(0, .ref (ad 0)), (1, .int (iz a0))]) rfl ?_
  refine z_iload_n X 1 dX1_letter_0 rfl ?_
  obtain ⟨i1, h⟩ := h
  refine z_if_lt X 12 dX1_letter_1 rfl i1 (fun c2 => ?_) (fun c2 => ?_)
  · have h := h.1 c2
    refine z_iconst X (-1) dX1_letter_12 ?_
    refine z_goto (tgt := 26) X dX1_letter_13 rfl ?_
    exact hR _ _ _ _ _ _ _ dX1_letter_26 rfl (Nat.le_refl 0) (Nat.le_refl 0) h
  · have h := h.2 c2
    refine z_iload_n X 1 dX1_letter_4 rfl ?_
    refine z_aload_n X 0 dX1_letter_5 rfl ?_
    refine gC_X1_244_X1 X K dX1_letter_6 ?_
    obtain ⟨i3, h⟩ := h
    refine z_icmp_lt X 16 dX1_letter_9 rfl i1 i3 (fun c4 => ?_) (fun c4 => ?_)
    · have h := h.1 c4
      refine z_aload_n X 0 dX1_letter_16 rfl ?_
      refine gC_X1_52_X1 X K dX1_letter_17 ?_
      refine z_iload_n X 1 dX1_letter_20 rfl ?_
      obtain ⟨x5, h⟩ := h
      refine z_aldB' X K 72 (Nat.le_of_ble_eq_true rfl) rfl rfl (Nat.le_of_ble_eq_true rfl) dX1_letter_21 x5 ?_
      refine z_sipush X 255 dX1_letter_22 rfl ?_
      refine z_iandm X 8 (M := 256) rfl rfl rfl dX1_letter_25 ?_
      exact hR _ _ _ _ _ _ _ dX1_letter_26 rfl (Nat.le_refl 0) (Nat.le_refl 0) h
    · have h := h.2 c4
      refine z_iconst X (-1) dX1_letter_12 ?_
      refine z_goto (tgt := 26) X dX1_letter_13 rfl ?_
      exact hR _ _ _ _ _ _ _ dX1_letter_26 rfl (Nat.le_refl 0) (Nat.le_refl 0) h
/- X1_isModule -/
set_option maxRecDepth 100000 in
theorem mtc_X1_isModule (l : Launch) (D : va_G) (ds : Nat → ClassId) (ad : Nat → Nat) (a0 : Int) (a1 : Int) (σ : ZS) (post : Int → ZS → Prop) (h : wc_X1_isModule a0 a1 σ post) : ZMetI l (ΘC D ds ad) yX1_isModule cX1_isModule 3 .boolean 2 24 0 0 [.ref (ad 0), .int (iz a0), .int (iz a1)] σ (fun r σ => (r = 0 ∨ r = 1) ∧ post r σ) := by
  refine ZMetI.of (by decide) (Nat.le_of_ble_eq_true rfl) (fun Γ X K hR => ?_)
  have X : ZX Γ cX1_isModule RX1 2 24 := X
  refine z_sub [0, 1, 2] (lv' := [(0, .ref (ad 0)), (1, .int (iz a0)), (2, .int (iz a1))]) rfl ?_
  refine z_aload_n X 0 dX1_isModule_0 rfl ?_
  refine gC_X1_162_X1 X K dX1_isModule_1 ?_
  refine z_ifnullQ X 41 dX1_isModule_4 rfl (fun c1 => ?_) (fun c1 => ?_)
  · have h := h.1 c1
    refine z_iconst X 0 dX1_isModule_41 ?_
    exact hR _ _ _ _ _ _ _ dX1_isModule_42 (z_nb (Or.inl rfl)) (Nat.le_refl 0) (Nat.le_refl 0) ⟨(Or.inl rfl), h⟩
  · have h := h.2 c1
    refine z_iload_n X 1 dX1_isModule_7 rfl ?_
    obtain ⟨i2, h⟩ := h
    refine z_if_lt X 41 dX1_isModule_8 rfl i2 (fun c3 => ?_) (fun c3 => ?_)
    · have h := h.1 c3
      refine z_iconst X 0 dX1_isModule_41 ?_
      exact hR _ _ _ _ _ _ _ dX1_isModule_42 (z_nb (Or.inl rfl)) (Nat.le_refl 0) (Nat.le_refl 0) ⟨(Or.inl rfl), h⟩
    · have h := h.2 c3
      refine z_iload_n X 2 dX1_isModule_11 rfl ?_
      obtain ⟨i4, h⟩ := h
      refine z_if_lt X 41 dX1_isModule_12 rfl i4 (fun c5 => ?_) (fun c5 => ?_)
      · have h := h.1 c5
        refine z_iconst X 0 dX1_isModule_41 ?_
        exact hR _ _ _ _ _ _ _ dX1_isModule_42 (z_nb (Or.inl rfl)) (Nat.le_refl 0) (Nat.le_refl 0) ⟨(Or.inl rfl), h⟩
      · have h := h.2 c5
        refine z_iload_n X 1 dX1_isModule_15 rfl ?_
        refine z_aload_n X 0 dX1_isModule_16 rfl ?_
        obtain ⟨y6, h⟩ := h
        refine gC_X1_162_X1R X K y6 dX1_isModule_17 ?_
        refine gC_X1_192_X5 X K (isSy_nn y6) dX1_isModule_20 ?_
        obtain ⟨i7, h⟩ := h
        refine z_icmp_ge X 41 dX1_isModule_23 rfl i2 i7 (fun c8 => ?_) (fun c8 => ?_)
        · have h := h.1 c8
          refine z_iconst X 0 dX1_isModule_41 ?_
          exact hR _ _ _ _ _ _ _ dX1_isModule_42 (z_nb (Or.inl rfl)) (Nat.le_refl 0) (Nat.le_refl 0) ⟨(Or.inl rfl), h⟩
        · have h := h.2 c8
          refine z_iload_n X 2 dX1_isModule_26 rfl ?_
          refine z_aload_n X 0 dX1_isModule_27 rfl ?_
          refine gC_X1_162_X1R X K y6 dX1_isModule_28 ?_
          refine gC_X1_195_X5 X K (isSy_nn y6) dX1_isModule_31 ?_
          obtain ⟨i9, h⟩ := h
          refine z_icmp_ge X 41 dX1_isModule_34 rfl i4 i9 (fun c10 => ?_) (fun c10 => ?_)
          · have h := h.1 c10
            refine z_iconst X 0 dX1_isModule_41 ?_
            exact hR _ _ _ _ _ _ _ dX1_isModule_42 (z_nb (Or.inl rfl)) (Nat.le_refl 0) (Nat.le_refl 0) ⟨(Or.inl rfl), h⟩
          · have h := h.2 c10
            refine z_iconst X 1 dX1_isModule_37 ?_
            refine z_goto (tgt := 42) X dX1_isModule_38 rfl ?_
            exact hR _ _ _ _ _ _ _ dX1_isModule_42 (z_nb (Or.inr rfl)) (Nat.le_refl 0) (Nat.le_refl 0) ⟨(Or.inr rfl), h⟩
/- X1_module -/
theorem clc_X1_262 {Γ : ZG} {cc : ByteArray} {fr lo nL mc0 ms0 k n pc : Nat} {xs : va_W} {lv : List (Nat × Value)} {st : List Value} {l : Launch} {D : va_G} {ds : Nat → ClassId} {ad : Nat → Nat} {a0 : Int} {a1 : Int} {σ : ZS} {post : Int → ZS → Prop} (X : ZX Γ cc RX1 fr lo) (K : ZCap Γ l (ΘC D ds ad) nL mc0 ms0) (hrm : zroom 3 46 fr lo = true) (h : wc_X1_isModule a0 a1 σ post) (hst : (st.map fun v => v.category).sum ≤ 8) (d : decode cc pc = .ok (.invokevirtual 262, 3)) (hcs : k ≤ mc0 ∧ n ≤ ms0) (kk : ∀ (r : Int) (σ' : ZS), (fun r σ => (r = 0 ∨ r = 1) ∧ post r σ) r σ' → Z Γ k n σ' xs (pc + 3) lv (.int (iz r) :: st)) : Z Γ k n σ xs pc lv (.int (iz a1) :: .int (iz a0) :: .ref (ad 0) :: st) := 
  z_callVI' (C := RX1) (q0 := 0) X K (mtc_X1_isModule l D ds ad a0 a1 σ post h) (Nat.le_of_ble_eq_true rfl) rfl rfl rfl (lw_V q1143 q1145 qs39 q108 q1146) ⟨rfl, by decide, by decide, rfl⟩ (zroom_of (zroom_le hrm (by decide))) ⟨by rw [K.2.2.2.1]; exact hcs.1, by rw [K.2.2.2.2]; exact hcs.2⟩ hst d rfl kk
set_option maxRecDepth 100000 in
theorem mtc_X1_module (l : Launch) (D : va_G) (ds : Nat → ClassId) (ad : Nat → Nat) (a0 : Int) (a1 : Int) (σ : ZS) (post : Int → ZS → Prop) (h : wc_X1_module a0 a1 σ post) : ZMetI l (ΘC D ds ad) yX1_module cX1_module 3 .int 3 46 0 0 [.ref (ad 0), .int (iz a0), .int (iz a1)] σ post := by
  refine ZMetI.of (by decide) (Nat.le_of_ble_eq_true rfl) (fun Γ X K hR => ?_)
  have X : ZX Γ cX1_module RX1 3 46 := X
  refine z_sub [0, 1, 2] (lv' := [(0, .ref (ad 0)), (1, .int (iz a0)), (2, .int (iz a1))]) rfl ?_
  refine z_aload_n X 0 dX1_module_0 rfl ?_
  refine z_iload_n X 1 dX1_module_1 rfl ?_
  refine z_iload_n X 2 dX1_module_2 rfl ?_
  refine clc_X1_262 X K rfl h (Nat.le_of_ble_eq_true rfl) dX1_module_3 ⟨Nat.zero_le _, Nat.zero_le _⟩ (fun r2 σ1 h => ?_)
  obtain ⟨b2, h⟩ := h
  have h := h b2
  refine z_if_ne X 13 dX1_module_6 rfl (InR_b b2) (fun c3 => ?_) (fun c3 => ?_)
  · have h := h.1 c3
    refine z_aload_n X 0 dX1_module_13 rfl ?_
    refine gC_X1_55_X1 X K dX1_module_14 ?_
    refine z_iload_n X 1 dX1_module_17 rfl ?_
    refine z_sipush X 144 dX1_module_18 rfl ?_
    refine z_imul X dX1_module_21 ?_
    refine z_iload_n X 2 dX1_module_22 rfl ?_
    refine z_iadd X dX1_module_23 ?_
    obtain ⟨x4, h⟩ := h
    refine z_aldZ' X K 73 (Nat.le_of_ble_eq_true rfl) rfl rfl (Nat.le_of_ble_eq_true rfl) dX1_module_24 x4 ?_
    obtain ⟨i5, h⟩ := h
    refine z_if_eq X 32 dX1_module_25 rfl i5 (fun c6 => ?_) (fun c6 => ?_)
    · have h := h.1 c6
      refine z_iconst X 0 dX1_module_32 ?_
      exact hR _ _ _ _ _ _ _ dX1_module_33 rfl (Nat.le_refl 0) (Nat.le_refl 0) h
    · have h := h.2 c6
      refine z_iconst X 1 dX1_module_28 ?_
      refine z_goto (tgt := 33) X dX1_module_29 rfl ?_
      exact hR _ _ _ _ _ _ _ dX1_module_33 rfl (Nat.le_refl 0) (Nat.le_refl 0) h
  · have h := h.2 c3
    refine z_iconst X (-1) dX1_module_9 ?_
    refine z_goto (tgt := 33) X dX1_module_10 rfl ?_
    exact hR _ _ _ _ _ _ _ dX1_module_33 rfl (Nat.le_refl 0) (Nat.le_refl 0) h
/- X1_flip -/
set_option maxRecDepth 100000 in
theorem wkc_X1_flip_42 {Γ : ZG} {l : Launch} {D : va_G} {ds : Nat → ClassId} {ad : Nat → Nat} {post : Int → ZS → Prop} (X : ZX Γ cX1_flip RX1 3 46) (K : ZCap Γ l (ΘC D ds ad) 3 0 0) (hR : ZRetI Γ cX1_flip .boolean 0 0 (fun r σ => (r = 0 ∨ r = 1) ∧ post r σ)) (t0 : Int) (t1 : Int) (σ : ZS) (h : wc_X1_flip_42 post t0 t1 σ) : Z Γ 0 0 σ [] 42 [] [.int (iz t0), .int (iz t1), .ref (ad 73)] := by
  obtain ⟨x1, h⟩ := h
  obtain ⟨b3, h⟩ := h
  refine z_astZ' X K 73 (Nat.le_of_ble_eq_true rfl) rfl rfl (Nat.le_of_ble_eq_true rfl) dX1_flip_42 x1 b3 (fun σ2 eσ2 => ?_)
  have h := h σ2 eσ2
  refine z_iconst X 1 dX1_flip_43 ?_
  exact hR _ _ _ _ _ _ _ dX1_flip_44 (z_nb (Or.inr rfl)) (Nat.le_refl 0) (Nat.le_refl 0) ⟨(Or.inr rfl), h⟩
set_option maxRecDepth 100000 in
theorem mtc_X1_flip (l : Launch) (D : va_G) (ds : Nat → ClassId) (ad : Nat → Nat) (a0 : Int) (a1 : Int) (σ : ZS) (post : Int → ZS → Prop) (h : wc_X1_flip a0 a1 σ post) : ZMetI l (ΘC D ds ad) yX1_flip cX1_flip 3 .boolean 3 46 0 0 [.ref (ad 0), .int (iz a0), .int (iz a1)] σ (fun r σ => (r = 0 ∨ r = 1) ∧ post r σ) := by
  refine ZMetI.of (by decide) (Nat.le_of_ble_eq_true rfl) (fun Γ X K hR => ?_)
  have X : ZX Γ cX1_flip RX1 3 46 := X
  refine z_sub [0, 1, 2] (lv' := [(0, .ref (ad 0)), (1, .int (iz a0)), (2, .int (iz a1))]) rfl ?_
  refine z_aload_n X 0 dX1_flip_0 rfl ?_
  refine z_iload_n X 1 dX1_flip_1 rfl ?_
  refine z_iload_n X 2 dX1_flip_2 rfl ?_
  refine clc_X1_262 X K rfl h (Nat.le_of_ble_eq_true rfl) dX1_flip_3 ⟨Nat.zero_le _, Nat.zero_le _⟩ (fun r2 σ1 h => ?_)
  obtain ⟨b2, h⟩ := h
  have h := h b2
  refine z_if_ne X 11 dX1_flip_6 rfl (InR_b b2) (fun c3 => ?_) (fun c3 => ?_)
  · have h := h.1 c3
    refine z_aload_n X 0 dX1_flip_11 rfl ?_
    refine gC_X1_55_X1 X K dX1_flip_12 ?_
    refine z_iload_n X 1 dX1_flip_15 rfl ?_
    refine z_sipush X 144 dX1_flip_16 rfl ?_
    refine z_imul X dX1_flip_19 ?_
    refine z_iload_n X 2 dX1_flip_20 rfl ?_
    refine z_iadd X dX1_flip_21 ?_
    refine z_aload_n X 0 dX1_flip_22 rfl ?_
    refine gC_X1_55_X1 X K dX1_flip_23 ?_
    refine z_iload_n X 1 dX1_flip_26 rfl ?_
    refine z_sipush X 144 dX1_flip_27 rfl ?_
    refine z_imul X dX1_flip_30 ?_
    refine z_iload_n X 2 dX1_flip_31 rfl ?_
    refine z_iadd X dX1_flip_32 ?_
    obtain ⟨x4, h⟩ := h
    refine z_aldZ' X K 73 (Nat.le_of_ble_eq_true rfl) rfl rfl (Nat.le_of_ble_eq_true rfl) dX1_flip_33 x4 ?_
    obtain ⟨i5, h⟩ := h
    refine z_if_ne X 41 dX1_flip_34 rfl i5 (fun c6 => ?_) (fun c6 => ?_)
    · have h := h.1 c6
      refine z_iconst X 0 dX1_flip_41 ?_
      exact z_sub [] rfl (wkc_X1_flip_42 X K hR _ _ _ h)
    · have h := h.2 c6
      refine z_iconst X 1 dX1_flip_37 ?_
      refine z_goto (tgt := 42) X dX1_flip_38 rfl ?_
      exact z_sub [] rfl (wkc_X1_flip_42 X K hR _ _ _ h)
  · have h := h.2 c3
    refine z_iconst X 0 dX1_flip_9 ?_
    exact hR _ _ _ _ _ _ _ dX1_flip_10 (z_nb (Or.inl rfl)) (Nat.le_refl 0) (Nat.le_refl 0) ⟨(Or.inl rfl), h⟩
/- X1_size -/
set_option maxRecDepth 100000 in
theorem mtc_X1_size (l : Launch) (D : va_G) (ds : Nat → ClassId) (ad : Nat → Nat) (a0 : Int) (a1 : Int) (σ : ZS) (post : Int → ZS → Prop) (h : wc_X1_size a0 a1 σ post) : ZMetI l (ΘC D ds ad) yX1_size cX1_size 4 .int 2 24 0 0 [.ref (ad 0), .int (iz a0), .int (iz a1)] σ post := by
  refine ZMetI.of (by decide) (Nat.le_of_ble_eq_true rfl) (fun Γ X K hR => ?_)
  have X : ZX Γ cX1_size RX1 2 24 := X
  refine z_sub [0, 1, 2] (lv' := [(0, .ref (ad 0)), (1, .int (iz a0)), (2, .int (iz a1))]) rfl ?_
  refine z_iload_n X 1 dX1_size_0 rfl ?_
  obtain ⟨i1, h⟩ := h
  refine z_if_lt X 10 dX1_size_1 rfl i1 (fun c2 => ?_) (fun c2 => ?_)
  · have h := h.1 c2
    refine z_iconst X (-1) dX1_size_10 ?_
    exact hR _ _ _ _ _ _ _ dX1_size_11 rfl (Nat.le_refl 0) (Nat.le_refl 0) h
  · have h := h.2 c2
    refine z_iload_n X 1 dX1_size_4 rfl ?_
    refine z_bipush X 30 dX1_size_5 rfl ?_
    refine z_icmp_lt X 12 dX1_size_7 rfl i1 (by decide) (fun c3 => ?_) (fun c3 => ?_)
    · have h := h.1 c3
      refine z_aload_n X 0 dX1_size_12 rfl ?_
      refine gC_X1_11_X1 X K dX1_size_13 ?_
      refine z_iload_n X 1 dX1_size_16 rfl ?_
      obtain ⟨x4, h⟩ := h
      refine aC_symbols X K dX1_size_17 x4 ?_
      refine z_astore_nK X K (lv' := [(3, .ref (ad (2 + a0.toNat))), (0, .ref (ad 0)), (1, .int (iz a0)), (2, .int (iz a1))]) dX1_size_18 rfl rfl ?_
      refine z_iload_n X 3 dX1_size_19 rfl ?_
      obtain ⟨i5, h⟩ := h
      obtain ⟨k, h⟩ := h
      by_cases c6 : a1 = 0
      · refine z_swIn X 0 64 dX1_size_20 c6 (by decide) (by decide) (by decide) rfl rfl ?_
        have h := k c6
        refine z_aload_n X 0 dX1_size_64 rfl ?_
        refine gC_X1_192_X5 X K (isSy_ix x4) dX1_size_65 ?_
        exact hR _ _ _ _ _ _ _ dX1_size_68 rfl (Nat.le_refl 0) (Nat.le_refl 0) h
      · obtain ⟨k, h⟩ := h
        by_cases c7 : a1 = 1
        · refine z_swIn X 1 69 dX1_size_20 c7 (by decide) (by decide) (by decide) rfl rfl ?_
          have h := k c7
          refine z_aload_n X 0 dX1_size_69 rfl ?_
          refine gC_X1_195_X5 X K (isSy_ix x4) dX1_size_70 ?_
          exact hR _ _ _ _ _ _ _ dX1_size_73 rfl (Nat.le_refl 0) (Nat.le_refl 0) h
        · obtain ⟨k, h⟩ := h
          by_cases c8 : a1 = 2
          · refine z_swIn X 2 74 dX1_size_20 c8 (by decide) (by decide) (by decide) rfl rfl ?_
            have h := k c8
            refine z_aload_n X 0 dX1_size_74 rfl ?_
            refine gC_X1_107_X5 X K (isSy_ix x4) dX1_size_75 ?_
            exact hR _ _ _ _ _ _ _ dX1_size_78 rfl (Nat.le_refl 0) (Nat.le_refl 0) h
          · obtain ⟨k, h⟩ := h
            by_cases c9 : a1 = 3
            · refine z_swIn X 3 79 dX1_size_20 c9 (by decide) (by decide) (by decide) rfl rfl ?_
              have h := k c9
              refine z_aload_n X 0 dX1_size_79 rfl ?_
              refine gC_X1_266_X5 X K (isSy_ix x4) dX1_size_80 ?_
              exact hR _ _ _ _ _ _ _ dX1_size_83 rfl (Nat.le_refl 0) (Nat.le_refl 0) h
            · obtain ⟨k, h⟩ := h
              by_cases c10 : a1 = 4
              · refine z_swIn X 4 84 dX1_size_20 c10 (by decide) (by decide) (by decide) rfl rfl ?_
                have h := k c10
                refine z_aload_n X 0 dX1_size_84 rfl ?_
                refine gC_X1_144_X5 X K (isSy_ix x4) dX1_size_85 ?_
                exact hR _ _ _ _ _ _ _ dX1_size_88 rfl (Nat.le_refl 0) (Nat.le_refl 0) h
              · obtain ⟨k, h⟩ := h
                by_cases c11 : a1 = 5
                · refine z_swIn X 5 89 dX1_size_20 c11 (by decide) (by decide) (by decide) rfl rfl ?_
                  have h := k c11
                  refine z_aload_n X 0 dX1_size_89 rfl ?_
                  refine gC_X1_210_X5 X K (isSy_ix x4) dX1_size_90 ?_
                  exact hR _ _ _ _ _ _ _ dX1_size_93 rfl (Nat.le_refl 0) (Nat.le_refl 0) h
                · obtain ⟨k, h⟩ := h
                  by_cases c12 : a1 = 6
                  · refine z_swIn X 6 94 dX1_size_20 c12 (by decide) (by decide) (by decide) rfl rfl ?_
                    have h := k c12
                    refine z_aload_n X 0 dX1_size_94 rfl ?_
                    refine gC_X1_179_X5 X K (isSy_ix x4) dX1_size_95 ?_
                    exact hR _ _ _ _ _ _ _ dX1_size_98 rfl (Nat.le_refl 0) (Nat.le_refl 0) h
                  · have c : a1 < 0 ∨ 6 < a1 := by omega
                    have h := h c
                    refine z_swOut X 99 dX1_size_20 i5 c rfl ?_
                    refine z_iconst X (-1) dX1_size_99 ?_
                    exact hR _ _ _ _ _ _ _ dX1_size_100 rfl (Nat.le_refl 0) (Nat.le_refl 0) h
    · have h := h.2 c3
      refine z_iconst X (-1) dX1_size_10 ?_
      exact hR _ _ _ _ _ _ _ dX1_size_11 rfl (Nat.le_refl 0) (Nat.le_refl 0) h
