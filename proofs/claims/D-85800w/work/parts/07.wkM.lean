/-! the walks of the plain form's methods (printed by tools/walkgen.py) -/
/- X13_thrown -/
set_option maxRecDepth 100000 in
theorem mt_thrown (l : Launch) (D : va_G) (cr : List vw_C) (ds : Nat → ClassId) (ad : Nat → Nat) (σ : ZS) (post : Int → ZS → Prop) (h : wm_thrown  σ post) : ZMetI l (ΘM D cr ds ad) yX13_thrown cX13_thrown 1 .int 1 0 0 0 [.ref (ad 0)] σ post := by
  refine ZMetI.of (by decide) (Nat.le_of_ble_eq_true rfl) (fun Γ X K hR => ?_)
  have X : ZX Γ cX13_thrown RX13 1 0 := X
  refine z_sub [0] (lv' := [(0, .ref (ad 0))]) rfl ?_
  refine z_aload_n X 0 dX13_thrown_0 rfl ?_
  refine gM_0 X K dX13_thrown_1 ?_
  exact hR _ _ _ _ _ _ _ dX13_thrown_4 rfl (Nat.le_refl 0) (Nat.le_refl 0) h
/- X13_planeColumns -/
set_option maxRecDepth 100000 in
theorem mt_planeColumns (l : Launch) (D : va_G) (cr : List vw_C) (ds : Nat → ClassId) (ad : Nat → Nat) (a0 : Int) (σ : ZS) (post : Int → ZS → Prop) (h : wm_planeColumns a0 σ post) : ZMetI l (ΘM D cr ds ad) yX13_planeColumns cX13_planeColumns 2 .int 1 0 0 0 [.ref (ad 0), .int (iz a0)] σ post := by
  refine ZMetI.of (by decide) (Nat.le_of_ble_eq_true rfl) (fun Γ X K hR => ?_)
  have X : ZX Γ cX13_planeColumns RX13 1 0 := X
  refine z_sub [0, 1] (lv' := [(0, .ref (ad 0)), (1, .int (iz a0))]) rfl ?_
  refine z_aload_n X 0 dX13_planeColumns_0 rfl ?_
  refine gM_2 X K dX13_planeColumns_1 ?_
  refine z_iload_n X 1 dX13_planeColumns_4 rfl ?_
  obtain ⟨x1, h⟩ := h
  refine aM_2 X K dX13_planeColumns_5 x1 ?_
  refine z_iconst X 2 dX13_planeColumns_6 ?_
  refine z_aload_n X 0 dX13_planeColumns_7 rfl ?_
  refine gM_6 X K dX13_planeColumns_8 ?_
  refine z_iload_n X 1 dX13_planeColumns_11 rfl ?_
  refine aM_6 X K dX13_planeColumns_12 x1 ?_
  refine z_imul X dX13_planeColumns_13 ?_
  refine z_isub X dX13_planeColumns_14 ?_
  exact hR _ _ _ _ _ _ _ dX13_planeColumns_15 rfl (Nat.le_refl 0) (Nat.le_refl 0) h
set_option maxRecDepth 100000 in
theorem clm_planeColumns {Γ : ZG} {cc : ByteArray} {fr lo nL pc : Nat} {lv : List (Nat × Value)} {st : List Value} {l : Launch} {D : va_G} {cr : List vw_C} {ds : Nat → ClassId} {ad : Nat → Nat} {a0 : Int} {σ : ZS} {post : Int → ZS → Prop} (X : ZX Γ cc RX13 fr lo) (K : ZCap Γ l (ΘM D cr ds ad) nL 0 0) (hrm : zroom 2 21 fr lo = true) (h : wm_planeColumns a0 σ post) (hst : (st.map fun v => v.category).sum ≤ 8) (d : decode cc pc = .ok (.invokevirtual 118, 3)) (kk : ∀ (r : Int) (σ' : ZS), post r σ' → Z Γ 0 0 σ' [] (pc + 3) lv (.int (iz r) :: st)) : Z Γ 0 0 σ [] pc lv (.int (iz a0) :: .ref (ad 0) :: st) :=
  z_callVI' (C := RX13) (q0 := 0) X K (mt_planeColumns l D cr ds ad a0 σ post h) (Nat.le_of_ble_eq_true rfl) rfl rfl rfl (lw_V q1402 q1404 qs43 q127 q1405) ⟨rfl, by decide, by decide, rfl⟩ (zroom_of hrm) ⟨Nat.zero_le _, Nat.zero_le _⟩ hst d rfl kk
/- X13_planeRows -/
set_option maxRecDepth 100000 in
theorem mt_planeRows (l : Launch) (D : va_G) (cr : List vw_C) (ds : Nat → ClassId) (ad : Nat → Nat) (a0 : Int) (σ : ZS) (post : Int → ZS → Prop) (h : wm_planeRows a0 σ post) : ZMetI l (ΘM D cr ds ad) yX13_planeRows cX13_planeRows 2 .int 1 0 0 0 [.ref (ad 0), .int (iz a0)] σ post := by
  refine ZMetI.of (by decide) (Nat.le_of_ble_eq_true rfl) (fun Γ X K hR => ?_)
  have X : ZX Γ cX13_planeRows RX13 1 0 := X
  refine z_sub [0, 1] (lv' := [(0, .ref (ad 0)), (1, .int (iz a0))]) rfl ?_
  refine z_aload_n X 0 dX13_planeRows_0 rfl ?_
  refine gM_1 X K dX13_planeRows_1 ?_
  refine z_iload_n X 1 dX13_planeRows_4 rfl ?_
  obtain ⟨x1, h⟩ := h
  refine aM_1 X K dX13_planeRows_5 x1 ?_
  refine z_iconst X 2 dX13_planeRows_6 ?_
  refine z_aload_n X 0 dX13_planeRows_7 rfl ?_
  refine gM_5 X K dX13_planeRows_8 ?_
  refine z_iload_n X 1 dX13_planeRows_11 rfl ?_
  refine aM_5 X K dX13_planeRows_12 x1 ?_
  refine z_imul X dX13_planeRows_13 ?_
  refine z_isub X dX13_planeRows_14 ?_
  exact hR _ _ _ _ _ _ _ dX13_planeRows_15 rfl (Nat.le_refl 0) (Nat.le_refl 0) h
set_option maxRecDepth 100000 in
theorem clm_planeRows {Γ : ZG} {cc : ByteArray} {fr lo nL pc : Nat} {lv : List (Nat × Value)} {st : List Value} {l : Launch} {D : va_G} {cr : List vw_C} {ds : Nat → ClassId} {ad : Nat → Nat} {a0 : Int} {σ : ZS} {post : Int → ZS → Prop} (X : ZX Γ cc RX13 fr lo) (K : ZCap Γ l (ΘM D cr ds ad) nL 0 0) (hrm : zroom 2 21 fr lo = true) (h : wm_planeRows a0 σ post) (hst : (st.map fun v => v.category).sum ≤ 8) (d : decode cc pc = .ok (.invokevirtual 114, 3)) (kk : ∀ (r : Int) (σ' : ZS), post r σ' → Z Γ 0 0 σ' [] (pc + 3) lv (.int (iz r) :: st)) : Z Γ 0 0 σ [] pc lv (.int (iz a0) :: .ref (ad 0) :: st) :=
  z_callVI' (C := RX13) (q0 := 0) X K (mt_planeRows l D cr ds ad a0 σ post h) (Nat.le_of_ble_eq_true rfl) rfl rfl rfl (lw_V q1398 q1400 qs42 q127 q1401) ⟨rfl, by decide, by decide, rfl⟩ (zroom_of hrm) ⟨Nat.zero_le _, Nat.zero_le _⟩ hst d rfl kk
/- X13_allOf -/
set_option maxRecDepth 100000 in
theorem mt_allOf (l : Launch) (D : va_G) (cr : List vw_C) (ds : Nat → ClassId) (ad : Nat → Nat) (a0 : Int) (σ : ZS) (post : Int → ZS → Prop) (h : wm_allOf a0 σ post) : ZMetI l (ΘM D cr ds ad) yX13_allOf cX13_allOf 2 .int 2 21 0 0 [.ref (ad 0), .int (iz a0)] σ post := by
  refine ZMetI.of (by decide) (Nat.le_of_ble_eq_true rfl) (fun Γ X K hR => ?_)
  have X : ZX Γ cX13_allOf RX13 2 21 := X
  refine z_sub [0, 1] (lv' := [(0, .ref (ad 0)), (1, .int (iz a0))]) rfl ?_
  refine z_aload_n X 0 dX13_allOf_0 rfl ?_
  refine z_iload_n X 1 dX13_allOf_1 rfl ?_
  refine clm_planeRows X K rfl h (Nat.le_of_ble_eq_true rfl) dX13_allOf_2 (fun r2 σ1 h => ?_)
  refine z_aload_n X 0 dX13_allOf_5 rfl ?_
  refine z_iload_n X 1 dX13_allOf_6 rfl ?_
  refine clm_planeColumns X K rfl h (Nat.le_of_ble_eq_true rfl) dX13_allOf_7 (fun r4 σ3 h => ?_)
  refine z_imul X dX13_allOf_10 ?_
  refine z_bipush X 8 dX13_allOf_11 rfl ?_
  obtain ⟨i5, h⟩ := h
  obtain ⟨g6, h⟩ := h
  refine z_idiv X dX13_allOf_13 ⟨i5, (by decide), g6, (by decide)⟩ ?_
  exact hR _ _ _ _ _ _ _ dX13_allOf_14 rfl (Nat.le_refl 0) (Nat.le_refl 0) h
set_option maxRecDepth 100000 in
theorem clm_allOf {Γ : ZG} {cc : ByteArray} {fr lo nL pc : Nat} {lv : List (Nat × Value)} {st : List Value} {l : Launch} {D : va_G} {cr : List vw_C} {ds : Nat → ClassId} {ad : Nat → Nat} {a0 : Int} {σ : ZS} {post : Int → ZS → Prop} (X : ZX Γ cc RX13 fr lo) (K : ZCap Γ l (ΘM D cr ds ad) nL 0 0) (hrm : zroom 3 42 fr lo = true) (h : wm_allOf a0 σ post) (hst : (st.map fun v => v.category).sum ≤ 8) (d : decode cc pc = .ok (.invokevirtual 121, 3)) (kk : ∀ (r : Int) (σ' : ZS), post r σ' → Z Γ 0 0 σ' [] (pc + 3) lv (.int (iz r) :: st)) : Z Γ 0 0 σ [] pc lv (.int (iz a0) :: .ref (ad 0) :: st) :=
  z_callVI' (C := RX13) (q0 := 0) X K (mt_allOf l D cr ds ad a0 σ post h) (Nat.le_of_ble_eq_true rfl) rfl rfl rfl (lw_V q1394 q1396 qs41 q127 q1397) ⟨rfl, by decide, by decide, rfl⟩ (zroom_of hrm) ⟨Nat.zero_le _, Nat.zero_le _⟩ hst d rfl kk
/- X13_dataOf -/
set_option maxRecDepth 100000 in
theorem mt_dataOf (l : Launch) (D : va_G) (cr : List vw_C) (ds : Nat → ClassId) (ad : Nat → Nat) (a0 : Int) (σ : ZS) (post : Int → ZS → Prop) (h : wm_dataOf a0 σ post) : ZMetI l (ΘM D cr ds ad) yX13_dataOf cX13_dataOf 2 .int 3 42 0 0 [.ref (ad 0), .int (iz a0)] σ post := by
  refine ZMetI.of (by decide) (Nat.le_of_ble_eq_true rfl) (fun Γ X K hR => ?_)
  have X : ZX Γ cX13_dataOf RX13 3 42 := X
  refine z_sub [0, 1] (lv' := [(0, .ref (ad 0)), (1, .int (iz a0))]) rfl ?_
  refine z_aload_n X 0 dX13_dataOf_0 rfl ?_
  refine z_iload_n X 1 dX13_dataOf_1 rfl ?_
  refine clm_allOf X K rfl h (Nat.le_of_ble_eq_true rfl) dX13_dataOf_2 (fun r2 σ1 h => ?_)
  refine z_aload_n X 0 dX13_dataOf_5 rfl ?_
  refine gM_3 X K dX13_dataOf_6 ?_
  refine z_iload_n X 1 dX13_dataOf_9 rfl ?_
  obtain ⟨x3, h⟩ := h
  refine aM_3 X K dX13_dataOf_10 x3 ?_
  refine z_isub X dX13_dataOf_11 ?_
  exact hR _ _ _ _ _ _ _ dX13_dataOf_12 rfl (Nat.le_refl 0) (Nat.le_refl 0) h
set_option maxRecDepth 100000 in
theorem clm_dataOf {Γ : ZG} {cc : ByteArray} {fr lo nL pc : Nat} {lv : List (Nat × Value)} {st : List Value} {l : Launch} {D : va_G} {cr : List vw_C} {ds : Nat → ClassId} {ad : Nat → Nat} {a0 : Int} {σ : ZS} {post : Int → ZS → Prop} (X : ZX Γ cc RX13 fr lo) (K : ZCap Γ l (ΘM D cr ds ad) nL 0 0) (hrm : zroom 4 63 fr lo = true) (h : wm_dataOf a0 σ post) (hst : (st.map fun v => v.category).sum ≤ 8) (d : decode cc pc = .ok (.invokevirtual 128, 3)) (kk : ∀ (r : Int) (σ' : ZS), post r σ' → Z Γ 0 0 σ' [] (pc + 3) lv (.int (iz r) :: st)) : Z Γ 0 0 σ [] pc lv (.int (iz a0) :: .ref (ad 0) :: st) :=
  z_callVI' (C := RX13) (q0 := 0) X K (mt_dataOf l D cr ds ad a0 σ post h) (Nat.le_of_ble_eq_true rfl) rfl rfl rfl (lw_V q1390 q1392 qs40 q127 q1393) ⟨rfl, by decide, by decide, rfl⟩ (zroom_of hrm) ⟨Nat.zero_le _, Nat.zero_le _⟩ hst d rfl kk
/- X13_isSymbol -/
set_option maxRecDepth 100000 in
theorem mt_isSymbol (l : Launch) (D : va_G) (cr : List vw_C) (ds : Nat → ClassId) (ad : Nat → Nat) (a0 : Int) (σ : ZS) (post : Int → ZS → Prop) (h : wm_isSymbol a0 σ post) : ZMetI l (ΘM D cr ds ad) yX13_isSymbol cX13_isSymbol 1 .boolean 1 0 0 0 [.int (iz a0)] σ (fun r σ => (r = 0 ∨ r = 1) ∧ post r σ) := by
  refine ZMetI.of (by decide) (Nat.le_of_ble_eq_true rfl) (fun Γ X K hR => ?_)
  have X : ZX Γ cX13_isSymbol RX13 1 0 := X
  refine z_sub [0] (lv' := [(0, .int (iz a0))]) rfl ?_
  refine z_iload_n X 0 dX13_isSymbol_0 rfl ?_
  obtain ⟨i1, h⟩ := h
  refine z_if_lt X 14 dX13_isSymbol_1 rfl i1 (fun c2 => ?_) (fun c2 => ?_)
  · have h := h.1 c2
    refine z_iconst X 0 dX13_isSymbol_14 ?_
    exact hR _ _ _ _ _ _ _ dX13_isSymbol_15 (z_nb (Or.inl rfl)) (Nat.le_refl 0) (Nat.le_refl 0) ⟨(Or.inl rfl), h⟩
  · have h := h.2 c2
    refine z_iload_n X 0 dX13_isSymbol_4 rfl ?_
    refine z_bipush X 30 dX13_isSymbol_5 rfl ?_
    refine z_icmp_ge X 14 dX13_isSymbol_7 rfl i1 (by decide) (fun c3 => ?_) (fun c3 => ?_)
    · have h := h.1 c3
      refine z_iconst X 0 dX13_isSymbol_14 ?_
      exact hR _ _ _ _ _ _ _ dX13_isSymbol_15 (z_nb (Or.inl rfl)) (Nat.le_refl 0) (Nat.le_refl 0) ⟨(Or.inl rfl), h⟩
    · have h := h.2 c3
      refine z_iconst X 1 dX13_isSymbol_10 ?_
      refine z_goto (tgt := 15) X dX13_isSymbol_11 rfl ?_
      exact hR _ _ _ _ _ _ _ dX13_isSymbol_15 (z_nb (Or.inr rfl)) (Nat.le_refl 0) (Nat.le_refl 0) ⟨(Or.inr rfl), h⟩
set_option maxRecDepth 100000 in
theorem clm_isSymbol {Γ : ZG} {cc : ByteArray} {fr lo nL pc : Nat} {lv : List (Nat × Value)} {st : List Value} {l : Launch} {D : va_G} {cr : List vw_C} {ds : Nat → ClassId} {ad : Nat → Nat} {a0 : Int} {σ : ZS} {post : Int → ZS → Prop} (X : ZX Γ cc RX13 fr lo) (K : ZCap Γ l (ΘM D cr ds ad) nL 0 0) (hrm : zroom 2 20 fr lo = true) (h : wm_isSymbol a0 σ post) (hst : (st.map fun v => v.category).sum ≤ 8) (d : decode cc pc = .ok (.invokestatic 124, 3)) (kk : ∀ (r : Int) (σ' : ZS), (fun r σ => (r = 0 ∨ r = 1) ∧ post r σ) r σ' → Z Γ 0 0 σ' [] (pc + 3) lv (.int (iz r) :: st)) : Z Γ 0 0 σ [] pc lv (.int (iz a0) :: st) :=
  z_callSI' X K (mt_isSymbol l D cr ds ad a0 σ post h) (lw_S q1387 q1388 q127 q1389) ⟨by decide, by decide, rfl⟩ (zroom_of hrm) ⟨Nat.zero_le _, Nat.zero_le _⟩ hst d rfl kk
/- X13_size -/
set_option maxRecDepth 100000 in
theorem mt_size (l : Launch) (D : va_G) (cr : List vw_C) (ds : Nat → ClassId) (ad : Nat → Nat) (a0 : Int) (a1 : Int) (σ : ZS) (post : Int → ZS → Prop) (h : wm_size a0 a1 σ post) : ZMetI l (ΘM D cr ds ad) yX13_size cX13_size 3 .int 4 63 0 0 [.ref (ad 0), .int (iz a0), .int (iz a1)] σ post := by
  refine ZMetI.of (by decide) (Nat.le_of_ble_eq_true rfl) (fun Γ X K hR => ?_)
  have X : ZX Γ cX13_size RX13 4 63 := X
  refine z_sub [0, 1, 2] (lv' := [(0, .ref (ad 0)), (1, .int (iz a0)), (2, .int (iz a1))]) rfl ?_
  refine z_aload_n X 0 dX13_size_0 rfl ?_
  refine z_iconst X 0 dX13_size_1 ?_
  refine pM_0 X K dX13_size_2 (fun σ1 eσ1 => ?_)
  have h := h σ1 eσ1
  refine z_iload_n X 1 dX13_size_5 rfl ?_
  refine clm_isSymbol X K rfl h (Nat.le_of_ble_eq_true rfl) dX13_size_6 (fun r3 σ2 h => ?_)
  obtain ⟨b3, h⟩ := h
  have h := h b3
  refine z_if_ne X 14 dX13_size_9 rfl (InR_b b3) (fun c5 => ?_) (fun c5 => ?_)
  · have h := h.1 c5
    refine z_iload_n X 2 dX13_size_14 rfl ?_
    obtain ⟨i6, h⟩ := h
    obtain ⟨k, h⟩ := h
    by_cases c17 : a1 = 0
    · refine z_swIn X 0 56 dX13_size_15 c17 (by decide) (by decide) (by decide) rfl rfl ?_
      have h := k c17
      refine z_aload_n X 0 dX13_size_56 rfl ?_
      refine gM_1 X K dX13_size_57 ?_
      refine z_iload_n X 1 dX13_size_60 rfl ?_
      obtain ⟨x7, h⟩ := h
      refine aM_1 X K dX13_size_61 x7 ?_
      exact hR _ _ _ _ _ _ _ dX13_size_62 rfl (Nat.le_refl 0) (Nat.le_refl 0) h
    · obtain ⟨k, h⟩ := h
      by_cases c18 : a1 = 1
      · refine z_swIn X 1 63 dX13_size_15 c18 (by decide) (by decide) (by decide) rfl rfl ?_
        have h := k c18
        refine z_aload_n X 0 dX13_size_63 rfl ?_
        refine gM_2 X K dX13_size_64 ?_
        refine z_iload_n X 1 dX13_size_67 rfl ?_
        obtain ⟨x8, h⟩ := h
        refine aM_2 X K dX13_size_68 x8 ?_
        exact hR _ _ _ _ _ _ _ dX13_size_69 rfl (Nat.le_refl 0) (Nat.le_refl 0) h
      · obtain ⟨k, h⟩ := h
        by_cases c19 : a1 = 2
        · refine z_swIn X 2 70 dX13_size_15 c19 (by decide) (by decide) (by decide) rfl rfl ?_
          have h := k c19
          refine z_aload_n X 0 dX13_size_70 rfl ?_
          refine z_iload_n X 1 dX13_size_71 rfl ?_
          refine clm_dataOf X K rfl h (Nat.le_of_ble_eq_true rfl) dX13_size_72 (fun r10 σ9 h => ?_)
          exact hR _ _ _ _ _ _ _ dX13_size_75 rfl (Nat.le_refl 0) (Nat.le_refl 0) h
        · obtain ⟨k, h⟩ := h
          by_cases c20 : a1 = 3
          · refine z_swIn X 3 76 dX13_size_15 c20 (by decide) (by decide) (by decide) rfl rfl ?_
            have h := k c20
            refine z_aload_n X 0 dX13_size_76 rfl ?_
            refine gM_3 X K dX13_size_77 ?_
            refine z_iload_n X 1 dX13_size_80 rfl ?_
            obtain ⟨x11, h⟩ := h
            refine aM_3 X K dX13_size_81 x11 ?_
            exact hR _ _ _ _ _ _ _ dX13_size_82 rfl (Nat.le_refl 0) (Nat.le_refl 0) h
          · obtain ⟨k, h⟩ := h
            by_cases c21 : a1 = 4
            · refine z_swIn X 4 83 dX13_size_15 c21 (by decide) (by decide) (by decide) rfl rfl ?_
              have h := k c21
              refine z_aload_n X 0 dX13_size_83 rfl ?_
              refine gM_4 X K dX13_size_84 ?_
              refine z_iload_n X 1 dX13_size_87 rfl ?_
              obtain ⟨x12, h⟩ := h
              refine aM_4 X K dX13_size_88 x12 ?_
              exact hR _ _ _ _ _ _ _ dX13_size_89 rfl (Nat.le_refl 0) (Nat.le_refl 0) h
            · obtain ⟨k, h⟩ := h
              by_cases c22 : a1 = 5
              · refine z_swIn X 5 90 dX13_size_15 c22 (by decide) (by decide) (by decide) rfl rfl ?_
                have h := k c22
                refine z_aload_n X 0 dX13_size_90 rfl ?_
                refine z_iload_n X 1 dX13_size_91 rfl ?_
                refine clm_planeRows X K rfl h (Nat.le_of_ble_eq_true rfl) dX13_size_92 (fun r14 σ13 h => ?_)
                exact hR _ _ _ _ _ _ _ dX13_size_95 rfl (Nat.le_refl 0) (Nat.le_refl 0) h
              · obtain ⟨k, h⟩ := h
                by_cases c23 : a1 = 6
                · refine z_swIn X 6 96 dX13_size_15 c23 (by decide) (by decide) (by decide) rfl rfl ?_
                  have h := k c23
                  refine z_aload_n X 0 dX13_size_96 rfl ?_
                  refine z_iload_n X 1 dX13_size_97 rfl ?_
                  refine clm_planeColumns X K rfl h (Nat.le_of_ble_eq_true rfl) dX13_size_98 (fun r16 σ15 h => ?_)
                  exact hR _ _ _ _ _ _ _ dX13_size_101 rfl (Nat.le_refl 0) (Nat.le_refl 0) h
                · have c : a1 < 0 ∨ 6 < a1 := by omega
                  have h := h c
                  refine z_swOut X 102 dX13_size_15 i6 c rfl ?_
                  refine z_iconst X (-1) dX13_size_102 ?_
                  exact hR _ _ _ _ _ _ _ dX13_size_103 rfl (Nat.le_refl 0) (Nat.le_refl 0) h
  · have h := h.2 c5
    refine z_iconst X (-1) dX13_size_12 ?_
    exact hR _ _ _ _ _ _ _ dX13_size_13 rfl (Nat.le_refl 0) (Nat.le_refl 0) h
/- X13_feed -/
set_option maxRecDepth 100000 in
theorem wkm_feed_64 {Γ : ZG} {l : Launch} {D : va_G} {cr : List vw_C} {ds : Nat → ClassId} {ad : Nat → Nat} {post : Int → ZS → Prop} (X : ZX Γ cX13_feed RX13 1 0) (K : ZCap Γ l (ΘM D cr ds ad) 11 0 0) (hR : ZRetI Γ cX13_feed .int 0 0 post) {C33 : Int × Int64 × Int64 × Int64 × Int × ZS → Prop} (hC33 : ∀ (v1 : Int) (v2 : Int64) (v4 : Int64) (v6 : Int64) (v8 : Int) (σ : ZS), C33 (v1, v2, v4, v6, v8, σ) → Z Γ 0 0 σ [] 33 [(0, .ref (ad 0)), (1, .int (iz v1)), (2, .long v2), (4, .long v4), (6, .long v6), (8, .int (iz v8))] []) (v1 : Int) (v2 : Int64) (v4 : Int64) (v6 : Int64) (v8 : Int) (t0 : Int64) (σ : ZS) (h : wm_feed_64 C33 post v1 v2 v4 v6 v8 t0 σ) : Z Γ 0 0 σ [] 64 [(0, .ref (ad 0)), (1, .int (iz v1)), (2, .long v2), (4, .long v4), (6, .long v6), (8, .int (iz v8))] [.long t0] := by
  refine z_lstoreK X K (lv' := [(9, .long t0), (0, .ref (ad 0)), (1, .int (iz v1)), (2, .long v2), (4, .long v4), (6, .long v6), (8, .int (iz v8))]) dX13_feed_64 rfl rfl ?_
  refine z_aload_n X 1 dX13_feed_66 rfl ?_
  refine gM_9 X K dX13_feed_67 ?_
  refine z_aload_n X 1 dX13_feed_70 rfl ?_
  refine gM_10 X K dX13_feed_71 ?_
  refine z_lload X 0 dX13_feed_74 rfl ?_
  refine z_bipush X 8 dX13_feed_76 rfl ?_
  refine z_iload X 6 dX13_feed_78 rfl ?_
  refine z_bipush X 8 dX13_feed_80 rfl ?_
  obtain ⟨i1, h⟩ := h
  obtain ⟨g2, h⟩ := h
  refine z_irem X dX13_feed_82 ⟨i1, (by decide), g2, (by decide)⟩ ?_
  refine z_imul X dX13_feed_83 ?_
  refine z_lshr X dX13_feed_84 ?_
  refine z_l2i X dX13_feed_85 ?_
  refine z_sipush X 255 dX13_feed_86 rfl ?_
  refine z_iandm X 8 (M := 256) rfl rfl rfl dX13_feed_89 ?_
  obtain ⟨x3, h⟩ := h
  refine sM_9 X K dX13_feed_90 x3 (fun σ4 eσ4 => ?_)
  have h := h σ4 eσ4
  refine z_aload_n X 1 dX13_feed_91 rfl ?_
  refine z_dup X dX13_feed_92 rfl ?_
  refine gM_10 X K dX13_feed_93 ?_
  refine z_iconst X 1 dX13_feed_96 ?_
  refine z_iadd X dX13_feed_97 ?_
  refine pM_10 X K dX13_feed_98 (fun σ5 eσ5 => ?_)
  have h := h σ5 eσ5
  refine z_iincK X K 6 (lv' := [(8, .int (iz (v8 + 1))), (9, .long t0), (0, .ref (ad 0)), (1, .int (iz v1)), (2, .long v2), (4, .long v4), (6, .long v6)]) dX13_feed_101 rfl rfl rfl ?_
  refine z_goto (tgt := 33) X dX13_feed_104 rfl ?_
  exact z_sub [2, 3, 4, 5, 6, 0] rfl (hC33 _ _ _ _ _ _ h)
set_option maxRecDepth 100000 in
theorem wkm_feed_33 {Γ : ZG} {l : Launch} {D : va_G} {cr : List vw_C} {ds : Nat → ClassId} {ad : Nat → Nat} {post : Int → ZS → Prop} (X : ZX Γ cX13_feed RX13 1 0) (K : ZCap Γ l (ΘM D cr ds ad) 11 0 0) (hR : ZRetI Γ cX13_feed .int 0 0 post) : ∀ (N : Nat) (v1 : Int) (v2 : Int64) (v4 : Int64) (v6 : Int64) (v8 : Int) (σ : ZS), zfix (wbm_feed_33 post) N (v1, v2, v4, v6, v8, σ) → Z Γ 0 0 σ [] 33 [(0, .ref (ad 0)), (1, .int (iz v1)), (2, .long v2), (4, .long v4), (6, .long v6), (8, .int (iz v8))] [] := by
  intro N
  induction N with
  | zero => intro v1 v2 v4 v6 v8 σ h; exact False.elim h
  | succ N ih =>
    intro v1 v2 v4 v6 v8 σ h
    have h : wbm_feed_33 post (zfix (wbm_feed_33 post) N) (v1, v2, v4, v6, v8, σ) := h
    have hC33 := ih
    clear ih
    generalize zfix (wbm_feed_33 post) N = C33 at h hC33
    dsimp only [wbm_feed_33] at h
    refine z_iload X 5 dX13_feed_33 rfl ?_
    refine z_iload_n X 1 dX13_feed_35 rfl ?_
    obtain ⟨i1, h⟩ := h
    obtain ⟨i2, h⟩ := h
    refine z_icmp_ge X 107 dX13_feed_36 rfl i1 i2 (fun c3 => ?_) (fun c3 => ?_)
    · have h := h.1 c3
      refine z_aload_n X 0 dX13_feed_107 rfl ?_
      refine gM_10 X K dX13_feed_108 ?_
      exact hR _ _ _ _ _ _ _ dX13_feed_111 rfl (Nat.le_refl 0) (Nat.le_refl 0) h
    · have h := h.2 c3
      refine z_iload X 5 dX13_feed_39 rfl ?_
      refine z_bipush X 8 dX13_feed_41 rfl ?_
      refine z_icmp_ge X 50 dX13_feed_43 rfl i1 (by decide) (fun c4 => ?_) (fun c4 => ?_)
      · have h := h.1 c4
        refine z_iload X 5 dX13_feed_50 rfl ?_
        refine z_bipush X 16 dX13_feed_52 rfl ?_
        refine z_icmp_ge X 62 dX13_feed_54 rfl i1 (by decide) (fun c5 => ?_) (fun c5 => ?_)
        · have h := h.1 c5
          refine z_lload X 4 dX13_feed_62 rfl ?_
          exact z_sub [0, 1, 2, 3, 4, 5] rfl (wkm_feed_64 X K hR hC33 _ _ _ _ _ _ _ h)
        · have h := h.2 c5
          refine z_lload X 3 dX13_feed_57 rfl ?_
          refine z_goto (tgt := 64) X dX13_feed_59 rfl ?_
          exact z_sub [0, 1, 2, 3, 4, 5] rfl (wkm_feed_64 X K hR hC33 _ _ _ _ _ _ _ h)
      · have h := h.2 c4
        refine z_lload_n X 2 dX13_feed_46 rfl ?_
        refine z_goto (tgt := 64) X dX13_feed_47 rfl ?_
        exact z_sub [0, 1, 2, 3, 4, 5] rfl (wkm_feed_64 X K hR hC33 _ _ _ _ _ _ _ h)
set_option maxRecDepth 100000 in
theorem mt_feed (l : Launch) (D : va_G) (cr : List vw_C) (ds : Nat → ClassId) (ad : Nat → Nat) (a0 : Int) (a1 : Int64) (a2 : Int64) (a3 : Int64) (σ : ZS) (post : Int → ZS → Prop) (h : wm_feed a0 a1 a2 a3 σ post) : ZMetI l (ΘM D cr ds ad) yX13_feed cX13_feed 11 .int 1 0 0 0 [.ref (ad 0), .int (iz a0), .long a1, .long a2, .long a3] σ post := by
  refine ZMetI.of (by decide) (Nat.le_of_ble_eq_true rfl) (fun Γ X K hR => ?_)
  have X : ZX Γ cX13_feed RX13 1 0 := X
  refine z_sub [0, 1, 2, 3, 4] (lv' := [(0, .ref (ad 0)), (1, .int (iz a0)), (2, .long a1), (4, .long a2), (6, .long a3)]) rfl ?_
  refine z_aload_n X 0 dX13_feed_0 rfl ?_
  refine z_iconst X 0 dX13_feed_1 ?_
  refine pM_0 X K dX13_feed_2 (fun σ1 eσ1 => ?_)
  have h := h σ1 eσ1
  refine z_iload_n X 1 dX13_feed_5 rfl ?_
  refine z_iconst X 1 dX13_feed_6 ?_
  obtain ⟨i2, h⟩ := h
  refine z_icmp_lt X 28 dX13_feed_7 rfl i2 (by decide) (fun c3 => ?_) (fun c3 => ?_)
  · have h := h.1 c3
    refine z_iconst X (-1) dX13_feed_28 ?_
    exact hR _ _ _ _ _ _ _ dX13_feed_29 rfl (Nat.le_refl 0) (Nat.le_refl 0) h
  · have h := h.2 c3
    refine z_iload_n X 1 dX13_feed_10 rfl ?_
    refine z_bipush X 24 dX13_feed_11 rfl ?_
    refine z_icmp_gt X 28 dX13_feed_13 rfl i2 (by decide) (fun c4 => ?_) (fun c4 => ?_)
    · have h := h.1 c4
      refine z_iconst X (-1) dX13_feed_28 ?_
      exact hR _ _ _ _ _ _ _ dX13_feed_29 rfl (Nat.le_refl 0) (Nat.le_refl 0) h
    · have h := h.2 c4
      refine z_aload_n X 0 dX13_feed_16 rfl ?_
      refine gM_10 X K dX13_feed_17 ?_
      refine z_iload_n X 1 dX13_feed_20 rfl ?_
      refine z_iadd X dX13_feed_21 ?_
      refine z_sipush X 3200 dX13_feed_22 rfl ?_
      obtain ⟨i5, h⟩ := h
      refine z_icmp_le X 30 dX13_feed_25 rfl i5 (by decide) (fun c6 => ?_) (fun c6 => ?_)
      · have h := h.1 c6
        refine z_iconst X 0 dX13_feed_30 ?_
        refine z_istoreK X K (lv' := [(8, .int (iz 0)), (0, .ref (ad 0)), (1, .int (iz a0)), (2, .long a1), (4, .long a2), (6, .long a3)]) dX13_feed_31 rfl rfl ?_
        obtain ⟨N, h⟩ := h
        exact z_sub [1, 2, 3, 4, 5, 0] rfl (wkm_feed_33 X K hR N _ _ _ _ _ _ h)
      · have h := h.2 c6
        refine z_iconst X (-1) dX13_feed_28 ?_
        exact hR _ _ _ _ _ _ _ dX13_feed_29 rfl (Nat.le_refl 0) (Nat.le_refl 0) h
/- X13_isOf -/
set_option maxRecDepth 100000 in
theorem mt_isOf (l : Launch) (D : va_G) (cr : List vw_C) (ds : Nat → ClassId) (ad : Nat → Nat) (a0 : Int) (a1 : Int) (a2 : Int) (a3 : Int) (a4 : Int) (σ : ZS) (post : Int → ZS → Prop) (h : wm_isOf a0 a1 a2 a3 a4 σ post) : ZMetI l (ΘM D cr ds ad) yX13_isOf cX13_isOf 5 .boolean 1 0 0 0 [.int (iz a0), .int (iz a1), .int (iz a2), .int (iz a3), .int (iz a4)] σ (fun r σ => (r = 0 ∨ r = 1) ∧ post r σ) := by
  refine ZMetI.of (by decide) (Nat.le_of_ble_eq_true rfl) (fun Γ X K hR => ?_)
  have X : ZX Γ cX13_isOf RX13 1 0 := X
  refine z_sub [0, 1, 2, 3, 4] (lv' := [(0, .int (iz a0)), (1, .int (iz a1)), (2, .int (iz a2)), (3, .int (iz a3)), (4, .int (iz a4))]) rfl ?_
  refine z_iload_n X 0 dX13_isOf_0 rfl ?_
  obtain ⟨i1, h⟩ := h
  refine z_if_lt X 27 dX13_isOf_1 rfl i1 (fun c2 => ?_) (fun c2 => ?_)
  · have h := h.1 c2
    refine z_iconst X 0 dX13_isOf_27 ?_
    exact hR _ _ _ _ _ _ _ dX13_isOf_28 (z_nb (Or.inl rfl)) (Nat.le_refl 0) (Nat.le_refl 0) ⟨(Or.inl rfl), h⟩
  · have h := h.2 c2
    refine z_iload_n X 1 dX13_isOf_4 rfl ?_
    obtain ⟨i3, h⟩ := h
    refine z_if_lt X 27 dX13_isOf_5 rfl i3 (fun c4 => ?_) (fun c4 => ?_)
    · have h := h.1 c4
      refine z_iconst X 0 dX13_isOf_27 ?_
      exact hR _ _ _ _ _ _ _ dX13_isOf_28 (z_nb (Or.inl rfl)) (Nat.le_refl 0) (Nat.le_refl 0) ⟨(Or.inl rfl), h⟩
    · have h := h.2 c4
      refine z_iload_n X 1 dX13_isOf_8 rfl ?_
      refine z_iload_n X 3 dX13_isOf_9 rfl ?_
      obtain ⟨i5, h⟩ := h
      refine z_icmp_ge X 27 dX13_isOf_10 rfl i3 i5 (fun c6 => ?_) (fun c6 => ?_)
      · have h := h.1 c6
        refine z_iconst X 0 dX13_isOf_27 ?_
        exact hR _ _ _ _ _ _ _ dX13_isOf_28 (z_nb (Or.inl rfl)) (Nat.le_refl 0) (Nat.le_refl 0) ⟨(Or.inl rfl), h⟩
      · have h := h.2 c6
        refine z_iload_n X 2 dX13_isOf_13 rfl ?_
        obtain ⟨i7, h⟩ := h
        refine z_if_lt X 27 dX13_isOf_14 rfl i7 (fun c8 => ?_) (fun c8 => ?_)
        · have h := h.1 c8
          refine z_iconst X 0 dX13_isOf_27 ?_
          exact hR _ _ _ _ _ _ _ dX13_isOf_28 (z_nb (Or.inl rfl)) (Nat.le_refl 0) (Nat.le_refl 0) ⟨(Or.inl rfl), h⟩
        · have h := h.2 c8
          refine z_iload_n X 2 dX13_isOf_17 rfl ?_
          refine z_iload X 4 dX13_isOf_18 rfl ?_
          obtain ⟨i9, h⟩ := h
          refine z_icmp_ge X 27 dX13_isOf_20 rfl i7 i9 (fun c10 => ?_) (fun c10 => ?_)
          · have h := h.1 c10
            refine z_iconst X 0 dX13_isOf_27 ?_
            exact hR _ _ _ _ _ _ _ dX13_isOf_28 (z_nb (Or.inl rfl)) (Nat.le_refl 0) (Nat.le_refl 0) ⟨(Or.inl rfl), h⟩
          · have h := h.2 c10
            refine z_iconst X 1 dX13_isOf_23 ?_
            refine z_goto (tgt := 28) X dX13_isOf_24 rfl ?_
            exact hR _ _ _ _ _ _ _ dX13_isOf_28 (z_nb (Or.inr rfl)) (Nat.le_refl 0) (Nat.le_refl 0) ⟨(Or.inr rfl), h⟩
set_option maxRecDepth 100000 in
theorem clm_isOf {Γ : ZG} {cc : ByteArray} {fr lo nL pc : Nat} {lv : List (Nat × Value)} {st : List Value} {l : Launch} {D : va_G} {cr : List vw_C} {ds : Nat → ClassId} {ad : Nat → Nat} {a0 : Int} {a1 : Int} {a2 : Int} {a3 : Int} {a4 : Int} {σ : ZS} {post : Int → ZS → Prop} (X : ZX Γ cc RX13 fr lo) (K : ZCap Γ l (ΘM D cr ds ad) nL 0 0) (hrm : zroom 2 24 fr lo = true) (h : wm_isOf a0 a1 a2 a3 a4 σ post) (hst : (st.map fun v => v.category).sum ≤ 8) (d : decode cc pc = .ok (.invokestatic 178, 3)) (kk : ∀ (r : Int) (σ' : ZS), (fun r σ => (r = 0 ∨ r = 1) ∧ post r σ) r σ' → Z Γ 0 0 σ' [] (pc + 3) lv (.int (iz r) :: st)) : Z Γ 0 0 σ [] pc lv (.int (iz a4) :: .int (iz a3) :: .int (iz a2) :: .int (iz a1) :: .int (iz a0) :: st) :=
  z_callSI' X K (mt_isOf l D cr ds ad a0 a1 a2 a3 a4 σ post h) (lw_S q1418 q1419 q127 q1420) ⟨by decide, by decide, rfl⟩ (zroom_of hrm) ⟨Nat.zero_le _, Nat.zero_le _⟩ hst d rfl kk
/- X13_isModule -/
set_option maxRecDepth 100000 in
theorem mt_isModule (l : Launch) (D : va_G) (cr : List vw_C) (ds : Nat → ClassId) (ad : Nat → Nat) (a0 : Int) (a1 : Int) (σ : ZS) (post : Int → ZS → Prop) (h : wm_isModule a0 a1 σ post) : ZMetI l (ΘM D cr ds ad) yX13_isModule cX13_isModule 3 .boolean 2 24 0 0 [.ref (ad 0), .int (iz a0), .int (iz a1)] σ (fun r σ => (r = 0 ∨ r = 1) ∧ post r σ) := by
  refine ZMetI.of (by decide) (Nat.le_of_ble_eq_true rfl) (fun Γ X K hR => ?_)
  have X : ZX Γ cX13_isModule RX13 2 24 := X
  refine z_sub [0, 1, 2] (lv' := [(0, .ref (ad 0)), (1, .int (iz a0)), (2, .int (iz a1))]) rfl ?_
  refine z_aload_n X 0 dX13_isModule_0 rfl ?_
  refine gM_18 X K dX13_isModule_1 ?_
  obtain ⟨i1, h⟩ := h
  refine z_if_lt X 41 dX13_isModule_4 rfl i1 (fun c2 => ?_) (fun c2 => ?_)
  · have h := h.1 c2
    refine z_iconst X 0 dX13_isModule_41 ?_
    exact hR _ _ _ _ _ _ _ dX13_isModule_42 (z_nb (Or.inl rfl)) (Nat.le_refl 0) (Nat.le_refl 0) ⟨(Or.inl rfl), h⟩
  · have h := h.2 c2
    refine z_aload_n X 0 dX13_isModule_7 rfl ?_
    refine gM_18 X K dX13_isModule_8 ?_
    refine z_iload_n X 1 dX13_isModule_11 rfl ?_
    refine z_iload_n X 2 dX13_isModule_12 rfl ?_
    refine z_aload_n X 0 dX13_isModule_13 rfl ?_
    refine gM_1 X K dX13_isModule_14 ?_
    refine z_aload_n X 0 dX13_isModule_17 rfl ?_
    refine gM_18 X K dX13_isModule_18 ?_
    obtain ⟨x3, h⟩ := h
    refine aM_1 X K dX13_isModule_21 x3 ?_
    refine z_aload_n X 0 dX13_isModule_22 rfl ?_
    refine gM_2 X K dX13_isModule_23 ?_
    refine z_aload_n X 0 dX13_isModule_26 rfl ?_
    refine gM_18 X K dX13_isModule_27 ?_
    refine aM_2 X K dX13_isModule_30 x3 ?_
    refine clm_isOf X K rfl h (Nat.le_of_ble_eq_true rfl) dX13_isModule_31 (fun r5 σ4 h => ?_)
    obtain ⟨b5, h⟩ := h
    have h := h b5
    refine z_if_eq X 41 dX13_isModule_34 rfl (InR_b b5) (fun c7 => ?_) (fun c7 => ?_)
    · have h := h.1 c7
      refine z_iconst X 0 dX13_isModule_41 ?_
      exact hR _ _ _ _ _ _ _ dX13_isModule_42 (z_nb (Or.inl rfl)) (Nat.le_refl 0) (Nat.le_refl 0) ⟨(Or.inl rfl), h⟩
    · have h := h.2 c7
      refine z_iconst X 1 dX13_isModule_37 ?_
      refine z_goto (tgt := 42) X dX13_isModule_38 rfl ?_
      exact hR _ _ _ _ _ _ _ dX13_isModule_42 (z_nb (Or.inr rfl)) (Nat.le_refl 0) (Nat.le_refl 0) ⟨(Or.inr rfl), h⟩
set_option maxRecDepth 100000 in
theorem clm_isModule {Γ : ZG} {cc : ByteArray} {fr lo nL pc : Nat} {lv : List (Nat × Value)} {st : List Value} {l : Launch} {D : va_G} {cr : List vw_C} {ds : Nat → ClassId} {ad : Nat → Nat} {a0 : Int} {a1 : Int} {σ : ZS} {post : Int → ZS → Prop} (X : ZX Γ cc RX13 fr lo) (K : ZCap Γ l (ΘM D cr ds ad) nL 0 0) (hrm : zroom 3 46 fr lo = true) (h : wm_isModule a0 a1 σ post) (hst : (st.map fun v => v.category).sum ≤ 8) (d : decode cc pc = .ok (.invokevirtual 182, 3)) (kk : ∀ (r : Int) (σ' : ZS), (fun r σ => (r = 0 ∨ r = 1) ∧ post r σ) r σ' → Z Γ 0 0 σ' [] (pc + 3) lv (.int (iz r) :: st)) : Z Γ 0 0 σ [] pc lv (.int (iz a1) :: .int (iz a0) :: .ref (ad 0) :: st) :=
  z_callVI' (C := RX13) (q0 := 0) X K (mt_isModule l D cr ds ad a0 a1 σ post h) (Nat.le_of_ble_eq_true rfl) rfl rfl rfl (lw_V q1414 q1416 qs44 q127 q1417) ⟨rfl, by decide, by decide, rfl⟩ (zroom_of hrm) ⟨Nat.zero_le _, Nat.zero_le _⟩ hst d rfl kk
/- X13_module -/
set_option maxRecDepth 100000 in
theorem mt_module (l : Launch) (D : va_G) (cr : List vw_C) (ds : Nat → ClassId) (ad : Nat → Nat) (a0 : Int) (a1 : Int) (σ : ZS) (post : Int → ZS → Prop) (h : wm_module a0 a1 σ post) : ZMetI l (ΘM D cr ds ad) yX13_module cX13_module 3 .int 3 46 0 0 [.ref (ad 0), .int (iz a0), .int (iz a1)] σ post := by
  refine ZMetI.of (by decide) (Nat.le_of_ble_eq_true rfl) (fun Γ X K hR => ?_)
  have X : ZX Γ cX13_module RX13 3 46 := X
  refine z_sub [0, 1, 2] (lv' := [(0, .ref (ad 0)), (1, .int (iz a0)), (2, .int (iz a1))]) rfl ?_
  refine z_aload_n X 0 dX13_module_0 rfl ?_
  refine z_iconst X 0 dX13_module_1 ?_
  refine pM_0 X K dX13_module_2 (fun σ1 eσ1 => ?_)
  have h := h σ1 eσ1
  refine z_aload_n X 0 dX13_module_5 rfl ?_
  refine z_iload_n X 1 dX13_module_6 rfl ?_
  refine z_iload_n X 2 dX13_module_7 rfl ?_
  refine clm_isModule X K rfl h (Nat.le_of_ble_eq_true rfl) dX13_module_8 (fun r3 σ2 h => ?_)
  obtain ⟨b3, h⟩ := h
  have h := h b3
  refine z_if_ne X 18 dX13_module_11 rfl (InR_b b3) (fun c5 => ?_) (fun c5 => ?_)
  · have h := h.1 c5
    refine z_aload_n X 0 dX13_module_18 rfl ?_
    refine gM_19 X K dX13_module_19 ?_
    refine z_sipush X 144 dX13_module_22 rfl ?_
    refine z_iload_n X 1 dX13_module_25 rfl ?_
    refine z_imul X dX13_module_26 ?_
    refine z_iload_n X 2 dX13_module_27 rfl ?_
    refine z_iadd X dX13_module_28 ?_
    obtain ⟨x6, h⟩ := h
    refine aM_12 X K dX13_module_29 x6 ?_
    obtain ⟨i7, h⟩ := h
    refine z_if_eq X 37 dX13_module_30 rfl i7 (fun c8 => ?_) (fun c8 => ?_)
    · have h := h.1 c8
      refine z_iconst X 0 dX13_module_37 ?_
      exact hR _ _ _ _ _ _ _ dX13_module_38 rfl (Nat.le_refl 0) (Nat.le_refl 0) h
    · have h := h.2 c8
      refine z_iconst X 1 dX13_module_33 ?_
      refine z_goto (tgt := 38) X dX13_module_34 rfl ?_
      exact hR _ _ _ _ _ _ _ dX13_module_38 rfl (Nat.le_refl 0) (Nat.le_refl 0) h
  · have h := h.2 c5
    refine z_iconst X (-1) dX13_module_14 ?_
    refine z_goto (tgt := 38) X dX13_module_15 rfl ?_
    exact hR _ _ _ _ _ _ _ dX13_module_38 rfl (Nat.le_refl 0) (Nat.le_refl 0) h
/- X13_flip -/
set_option maxRecDepth 100000 in
theorem wkm_flip_47 {Γ : ZG} {l : Launch} {D : va_G} {cr : List vw_C} {ds : Nat → ClassId} {ad : Nat → Nat} {post : Int → ZS → Prop} (X : ZX Γ cX13_flip RX13 3 46) (K : ZCap Γ l (ΘM D cr ds ad) 3 0 0) (hR : ZRetI Γ cX13_flip .boolean 0 0 (fun r σ => (r = 0 ∨ r = 1) ∧ post r σ)) (t0 : Int) (t1 : Int) (σ : ZS) (h : wm_flip_47 post t0 t1 σ) : Z Γ 0 0 σ [] 47 [] [.int (iz t0), .int (iz t1), .ref (ad 12)] := by
  obtain ⟨x1, h⟩ := h
  obtain ⟨b3, h⟩ := h
  refine sM_12 X K dX13_flip_47 x1 b3 (fun σ2 eσ2 => ?_)
  have h := h σ2 eσ2
  refine z_iconst X 1 dX13_flip_48 ?_
  exact hR _ _ _ _ _ _ _ dX13_flip_49 (z_nb (Or.inr rfl)) (Nat.le_refl 0) (Nat.le_refl 0) ⟨(Or.inr rfl), h⟩
set_option maxRecDepth 100000 in
theorem mt_flip (l : Launch) (D : va_G) (cr : List vw_C) (ds : Nat → ClassId) (ad : Nat → Nat) (a0 : Int) (a1 : Int) (σ : ZS) (post : Int → ZS → Prop) (h : wm_flip a0 a1 σ post) : ZMetI l (ΘM D cr ds ad) yX13_flip cX13_flip 3 .boolean 3 46 0 0 [.ref (ad 0), .int (iz a0), .int (iz a1)] σ (fun r σ => (r = 0 ∨ r = 1) ∧ post r σ) := by
  refine ZMetI.of (by decide) (Nat.le_of_ble_eq_true rfl) (fun Γ X K hR => ?_)
  have X : ZX Γ cX13_flip RX13 3 46 := X
  refine z_sub [0, 1, 2] (lv' := [(0, .ref (ad 0)), (1, .int (iz a0)), (2, .int (iz a1))]) rfl ?_
  refine z_aload_n X 0 dX13_flip_0 rfl ?_
  refine z_iconst X 0 dX13_flip_1 ?_
  refine pM_0 X K dX13_flip_2 (fun σ1 eσ1 => ?_)
  have h := h σ1 eσ1
  refine z_aload_n X 0 dX13_flip_5 rfl ?_
  refine z_iload_n X 1 dX13_flip_6 rfl ?_
  refine z_iload_n X 2 dX13_flip_7 rfl ?_
  refine clm_isModule X K rfl h (Nat.le_of_ble_eq_true rfl) dX13_flip_8 (fun r3 σ2 h => ?_)
  obtain ⟨b3, h⟩ := h
  have h := h b3
  refine z_if_ne X 16 dX13_flip_11 rfl (InR_b b3) (fun c5 => ?_) (fun c5 => ?_)
  · have h := h.1 c5
    refine z_aload_n X 0 dX13_flip_16 rfl ?_
    refine gM_19 X K dX13_flip_17 ?_
    refine z_sipush X 144 dX13_flip_20 rfl ?_
    refine z_iload_n X 1 dX13_flip_23 rfl ?_
    refine z_imul X dX13_flip_24 ?_
    refine z_iload_n X 2 dX13_flip_25 rfl ?_
    refine z_iadd X dX13_flip_26 ?_
    refine z_aload_n X 0 dX13_flip_27 rfl ?_
    refine gM_19 X K dX13_flip_28 ?_
    refine z_sipush X 144 dX13_flip_31 rfl ?_
    refine z_iload_n X 1 dX13_flip_34 rfl ?_
    refine z_imul X dX13_flip_35 ?_
    refine z_iload_n X 2 dX13_flip_36 rfl ?_
    refine z_iadd X dX13_flip_37 ?_
    obtain ⟨x6, h⟩ := h
    refine aM_12 X K dX13_flip_38 x6 ?_
    obtain ⟨i7, h⟩ := h
    refine z_if_ne X 46 dX13_flip_39 rfl i7 (fun c8 => ?_) (fun c8 => ?_)
    · have h := h.1 c8
      refine z_iconst X 0 dX13_flip_46 ?_
      exact z_sub [] rfl (wkm_flip_47 X K hR _ _ _ h)
    · have h := h.2 c8
      refine z_iconst X 1 dX13_flip_42 ?_
      refine z_goto (tgt := 47) X dX13_flip_43 rfl ?_
      exact z_sub [] rfl (wkm_flip_47 X K hR _ _ _ h)
  · have h := h.2 c5
    refine z_iconst X 0 dX13_flip_14 ?_
    exact hR _ _ _ _ _ _ _ dX13_flip_15 (z_nb (Or.inl rfl)) (Nat.le_refl 0) (Nat.le_refl 0) ⟨(Or.inl rfl), h⟩
/- X13_isCodeword -/
set_option maxRecDepth 100000 in
theorem mt_isCodeword (l : Launch) (D : va_G) (cr : List vw_C) (ds : Nat → ClassId) (ad : Nat → Nat) (a0 : Int) (σ : ZS) (post : Int → ZS → Prop) (h : wm_isCodeword a0 σ post) : ZMetI l (ΘM D cr ds ad) yX13_isCodeword cX13_isCodeword 2 .boolean 3 42 0 0 [.ref (ad 0), .int (iz a0)] σ (fun r σ => (r = 0 ∨ r = 1) ∧ post r σ) := by
  refine ZMetI.of (by decide) (Nat.le_of_ble_eq_true rfl) (fun Γ X K hR => ?_)
  have X : ZX Γ cX13_isCodeword RX13 3 42 := X
  refine z_sub [0, 1] (lv' := [(0, .ref (ad 0)), (1, .int (iz a0))]) rfl ?_
  refine z_aload_n X 0 dX13_isCodeword_0 rfl ?_
  refine gM_18 X K dX13_isCodeword_1 ?_
  obtain ⟨i1, h⟩ := h
  refine z_if_lt X 27 dX13_isCodeword_4 rfl i1 (fun c2 => ?_) (fun c2 => ?_)
  · have h := h.1 c2
    refine z_iconst X 0 dX13_isCodeword_27 ?_
    exact hR _ _ _ _ _ _ _ dX13_isCodeword_28 (z_nb (Or.inl rfl)) (Nat.le_refl 0) (Nat.le_refl 0) ⟨(Or.inl rfl), h⟩
  · have h := h.2 c2
    refine z_iload_n X 1 dX13_isCodeword_7 rfl ?_
    obtain ⟨i3, h⟩ := h
    refine z_if_lt X 27 dX13_isCodeword_8 rfl i3 (fun c4 => ?_) (fun c4 => ?_)
    · have h := h.1 c4
      refine z_iconst X 0 dX13_isCodeword_27 ?_
      exact hR _ _ _ _ _ _ _ dX13_isCodeword_28 (z_nb (Or.inl rfl)) (Nat.le_refl 0) (Nat.le_refl 0) ⟨(Or.inl rfl), h⟩
    · have h := h.2 c4
      refine z_iload_n X 1 dX13_isCodeword_11 rfl ?_
      refine z_aload_n X 0 dX13_isCodeword_12 rfl ?_
      refine z_aload_n X 0 dX13_isCodeword_13 rfl ?_
      refine gM_18 X K dX13_isCodeword_14 ?_
      refine clm_allOf X K rfl h (Nat.le_of_ble_eq_true rfl) dX13_isCodeword_17 (fun r6 σ5 h => ?_)
      obtain ⟨i7, h⟩ := h
      refine z_icmp_ge X 27 dX13_isCodeword_20 rfl i3 i7 (fun c8 => ?_) (fun c8 => ?_)
      · have h := h.1 c8
        refine z_iconst X 0 dX13_isCodeword_27 ?_
        exact hR _ _ _ _ _ _ _ dX13_isCodeword_28 (z_nb (Or.inl rfl)) (Nat.le_refl 0) (Nat.le_refl 0) ⟨(Or.inl rfl), h⟩
      · have h := h.2 c8
        refine z_iconst X 1 dX13_isCodeword_23 ?_
        refine z_goto (tgt := 28) X dX13_isCodeword_24 rfl ?_
        exact hR _ _ _ _ _ _ _ dX13_isCodeword_28 (z_nb (Or.inr rfl)) (Nat.le_refl 0) (Nat.le_refl 0) ⟨(Or.inr rfl), h⟩
set_option maxRecDepth 100000 in
theorem clm_isCodeword {Γ : ZG} {cc : ByteArray} {fr lo nL pc : Nat} {lv : List (Nat × Value)} {st : List Value} {l : Launch} {D : va_G} {cr : List vw_C} {ds : Nat → ClassId} {ad : Nat → Nat} {a0 : Int} {σ : ZS} {post : Int → ZS → Prop} (X : ZX Γ cc RX13 fr lo) (K : ZCap Γ l (ΘM D cr ds ad) nL 0 0) (hrm : zroom 4 63 fr lo = true) (h : wm_isCodeword a0 σ post) (hst : (st.map fun v => v.category).sum ≤ 8) (d : decode cc pc = .ok (.invokevirtual 185, 3)) (kk : ∀ (r : Int) (σ' : ZS), (fun r σ => (r = 0 ∨ r = 1) ∧ post r σ) r σ' → Z Γ 0 0 σ' [] (pc + 3) lv (.int (iz r) :: st)) : Z Γ 0 0 σ [] pc lv (.int (iz a0) :: .ref (ad 0) :: st) :=
  z_callVI' (C := RX13) (q0 := 0) X K (mt_isCodeword l D cr ds ad a0 σ post h) (Nat.le_of_ble_eq_true rfl) rfl rfl rfl (lw_V q1429 q1431 qs45 q127 q1432) ⟨rfl, by decide, by decide, rfl⟩ (zroom_of hrm) ⟨Nat.zero_le _, Nat.zero_le _⟩ hst d rfl kk
/- X13_moduleAt -/
set_option maxRecDepth 100000 in
theorem mt_moduleAt (l : Launch) (D : va_G) (cr : List vw_C) (ds : Nat → ClassId) (ad : Nat → Nat) (a0 : Int) (a1 : Int) (a2 : Int) (σ : ZS) (post : Int → ZS → Prop) (h : wm_moduleAt a0 a1 a2 σ post) : ZMetI l (ΘM D cr ds ad) yX13_moduleAt cX13_moduleAt 6 .int 1 0 0 0 [.ref (ad 0), .int (iz a0), .int (iz a1), .int (iz a2)] σ post := by
  refine ZMetI.of (by decide) (Nat.le_of_ble_eq_true rfl) (fun Γ X K hR => ?_)
  have X : ZX Γ cX13_moduleAt RX13 1 0 := X
  refine z_sub [0, 1, 2, 3] (lv' := [(0, .ref (ad 0)), (1, .int (iz a0)), (2, .int (iz a1)), (3, .int (iz a2))]) rfl ?_
  refine z_aload_n X 0 dX13_moduleAt_0 rfl ?_
  refine gM_15 X K dX13_moduleAt_1 ?_
  refine z_aload_n X 0 dX13_moduleAt_4 rfl ?_
  refine gM_5 X K dX13_moduleAt_5 ?_
  refine z_iload_n X 1 dX13_moduleAt_8 rfl ?_
  obtain ⟨x1, h⟩ := h
  refine aM_5 X K dX13_moduleAt_9 x1 ?_
  obtain ⟨i2, h⟩ := h
  obtain ⟨g3, h⟩ := h
  obtain ⟨i4, h⟩ := h
  obtain ⟨g5, h⟩ := h
  refine z_idiv X dX13_moduleAt_10 ⟨i2, i4, g3, g5⟩ ?_
  refine z_topi (fun v4_6 ev4_6 => ?_)
  have h := h v4_6 ev4_6
  refine z_istoreK X K (lv' := [(4, .int (iz v4_6)), (0, .ref (ad 0)), (1, .int (iz a0)), (2, .int (iz a1)), (3, .int (iz a2))]) dX13_moduleAt_11 rfl rfl ?_
  refine z_aload_n X 1 dX13_moduleAt_13 rfl ?_
  refine gM_16 X K dX13_moduleAt_14 ?_
  refine z_aload_n X 1 dX13_moduleAt_17 rfl ?_
  refine gM_6 X K dX13_moduleAt_18 ?_
  refine z_iload_n X 2 dX13_moduleAt_21 rfl ?_
  refine aM_6 X K dX13_moduleAt_22 x1 ?_
  obtain ⟨i7, h⟩ := h
  obtain ⟨g8, h⟩ := h
  obtain ⟨i9, h⟩ := h
  obtain ⟨g10, h⟩ := h
  refine z_idiv X dX13_moduleAt_23 ⟨i7, i9, g8, g10⟩ ?_
  refine z_topi (fun v5_11 ev5_11 => ?_)
  have h := h v5_11 ev5_11
  refine z_istoreK X K (lv' := [(5, .int (iz v5_11)), (4, .int (iz v4_6)), (0, .ref (ad 0)), (1, .int (iz a0)), (2, .int (iz a1)), (3, .int (iz a2))]) dX13_moduleAt_24 rfl rfl ?_
  refine z_sipush X 144 dX13_moduleAt_26 rfl ?_
  refine z_iconst X 1 dX13_moduleAt_29 ?_
  refine z_iload_n X 4 dX13_moduleAt_30 rfl ?_
  refine z_iadd X dX13_moduleAt_31 ?_
  refine z_iconst X 2 dX13_moduleAt_32 ?_
  refine z_iload_n X 4 dX13_moduleAt_33 rfl ?_
  refine z_iload X 1 dX13_moduleAt_34 rfl ?_
  obtain ⟨i12, h⟩ := h
  obtain ⟨g13, h⟩ := h
  obtain ⟨i14, h⟩ := h
  obtain ⟨g15, h⟩ := h
  refine z_idiv X dX13_moduleAt_36 ⟨i12, i14, g13, g15⟩ ?_
  refine z_imul X dX13_moduleAt_37 ?_
  refine z_iadd X dX13_moduleAt_38 ?_
  refine z_imul X dX13_moduleAt_39 ?_
  refine z_iconst X 1 dX13_moduleAt_40 ?_
  refine z_iadd X dX13_moduleAt_41 ?_
  refine z_iload_n X 5 dX13_moduleAt_42 rfl ?_
  refine z_iadd X dX13_moduleAt_43 ?_
  refine z_iconst X 2 dX13_moduleAt_44 ?_
  refine z_iload_n X 5 dX13_moduleAt_45 rfl ?_
  refine z_iload X 0 dX13_moduleAt_46 rfl ?_
  obtain ⟨i16, h⟩ := h
  obtain ⟨g17, h⟩ := h
  obtain ⟨i18, h⟩ := h
  obtain ⟨g19, h⟩ := h
  refine z_idiv X dX13_moduleAt_48 ⟨i16, i18, g17, g19⟩ ?_
  refine z_imul X dX13_moduleAt_49 ?_
  refine z_iadd X dX13_moduleAt_50 ?_
  exact hR _ _ _ _ _ _ _ dX13_moduleAt_51 rfl (Nat.le_refl 0) (Nat.le_refl 0) h
set_option maxRecDepth 100000 in
theorem clm_moduleAt {Γ : ZG} {cc : ByteArray} {fr lo nL pc : Nat} {lv : List (Nat × Value)} {st : List Value} {l : Launch} {D : va_G} {cr : List vw_C} {ds : Nat → ClassId} {ad : Nat → Nat} {a0 : Int} {a1 : Int} {a2 : Int} {σ : ZS} {post : Int → ZS → Prop} (X : ZX Γ cc RX13 fr lo) (K : ZCap Γ l (ΘM D cr ds ad) nL 0 0) (hrm : zroom 2 25 fr lo = true) (h : wm_moduleAt a0 a1 a2 σ post) (hst : (st.map fun v => v.category).sum ≤ 8) (d : decode cc pc = .ok (.invokevirtual 146, 3)) (kk : ∀ (r : Int) (σ' : ZS), post r σ' → Z Γ 0 0 σ' [] (pc + 3) lv (.int (iz r) :: st)) : Z Γ 0 0 σ [] pc lv (.int (iz a2) :: .int (iz a1) :: .int (iz a0) :: .ref (ad 0) :: st) :=
  z_callVI' (C := RX13) (q0 := 0) X K (mt_moduleAt l D cr ds ad a0 a1 a2 σ post h) (Nat.le_of_ble_eq_true rfl) rfl rfl rfl (lw_V q1451 q1453 qs50 q127 q1454) ⟨rfl, by decide, by decide, rfl⟩ (zroom_of hrm) ⟨Nat.zero_le _, Nat.zero_le _⟩ hst d rfl kk
/- X13_lie -/
set_option maxRecDepth 100000 in
theorem mt_lie (l : Launch) (D : va_G) (cr : List vw_C) (ds : Nat → ClassId) (ad : Nat → Nat) (a0 : Int) (a1 : Int) (a2 : Int) (σ : ZS) (post : ZS → Prop) (h : wm_lie a0 a1 a2 σ post) : ZMetV l (ΘM D cr ds ad) yX13_lie cX13_lie 4 2 25 0 0 [.ref (ad 0), .int (iz a0), .int (iz a1), .int (iz a2)] σ post := by
  refine ZMetV.of (by decide) (Nat.le_of_ble_eq_true rfl) (fun Γ X K hR => ?_)
  have X : ZX Γ cX13_lie RX13 2 25 := X
  refine z_sub [0, 1, 2, 3] (lv' := [(0, .ref (ad 0)), (1, .int (iz a0)), (2, .int (iz a1)), (3, .int (iz a2))]) rfl ?_
  refine z_aload_n X 0 dX13_lie_0 rfl ?_
  refine gM_13 X K dX13_lie_1 ?_
  refine z_aload_n X 0 dX13_lie_4 rfl ?_
  refine gM_16 X K dX13_lie_5 ?_
  refine z_iload_n X 1 dX13_lie_8 rfl ?_
  refine z_imul X dX13_lie_9 ?_
  refine z_iload_n X 2 dX13_lie_10 rfl ?_
  refine z_iadd X dX13_lie_11 ?_
  refine z_bipush X 8 dX13_lie_12 rfl ?_
  refine z_aload_n X 0 dX13_lie_14 rfl ?_
  refine gM_17 X K dX13_lie_15 ?_
  refine z_imul X dX13_lie_18 ?_
  refine z_iload_n X 3 dX13_lie_19 rfl ?_
  refine z_iadd X dX13_lie_20 ?_
  refine z_iconst X 1 dX13_lie_21 ?_
  refine z_iadd X dX13_lie_22 ?_
  obtain ⟨x1, h⟩ := h
  refine sM_10 X K dX13_lie_23 x1 (fun σ2 eσ2 => ?_)
  have h := h σ2 eσ2
  refine z_aload_n X 0 dX13_lie_24 rfl ?_
  refine gM_14 X K dX13_lie_25 ?_
  refine z_bipush X 8 dX13_lie_28 rfl ?_
  refine z_aload_n X 0 dX13_lie_30 rfl ?_
  refine gM_17 X K dX13_lie_31 ?_
  refine z_imul X dX13_lie_34 ?_
  refine z_iload_n X 3 dX13_lie_35 rfl ?_
  refine z_iadd X dX13_lie_36 ?_
  refine z_aload_n X 0 dX13_lie_37 rfl ?_
  refine z_aload_n X 0 dX13_lie_38 rfl ?_
  refine gM_12 X K dX13_lie_39 ?_
  refine z_iload_n X 1 dX13_lie_42 rfl ?_
  refine z_iload_n X 2 dX13_lie_43 rfl ?_
  refine clm_moduleAt X K rfl h (Nat.le_of_ble_eq_true rfl) dX13_lie_44 (fun r4 σ3 h => ?_)
  obtain ⟨x5, h⟩ := h
  refine sM_11 X K dX13_lie_47 x5 (fun σ6 eσ6 => ?_)
  have h := h σ6 eσ6
  exact hR _ _ _ _ _ _ dX13_lie_48 (Nat.le_refl 0) (Nat.le_refl 0) h
set_option maxRecDepth 100000 in
theorem clm_lie {Γ : ZG} {cc : ByteArray} {fr lo nL pc : Nat} {lv : List (Nat × Value)} {st : List Value} {l : Launch} {D : va_G} {cr : List vw_C} {ds : Nat → ClassId} {ad : Nat → Nat} {a0 : Int} {a1 : Int} {a2 : Int} {σ : ZS} {post : ZS → Prop} (X : ZX Γ cc RX13 fr lo) (K : ZCap Γ l (ΘM D cr ds ad) nL 0 0) (hrm : zroom 3 48 fr lo = true) (h : wm_lie a0 a1 a2 σ post) (hst : (st.map fun v => v.category).sum ≤ 8) (d : decode cc pc = .ok (.invokevirtual 150, 3)) (kk : ∀ (σ' : ZS), post σ' → Z Γ 0 0 σ' [] (pc + 3) lv (st)) : Z Γ 0 0 σ [] pc lv (.int (iz a2) :: .int (iz a1) :: .int (iz a0) :: .ref (ad 0) :: st) :=
  z_callVV' (C := RX13) (q0 := 0) X K (mt_lie l D cr ds ad a0 a1 a2 σ post h) (Nat.le_of_ble_eq_true rfl) rfl rfl rfl (lw_V q1447 q1449 qs49 q127 q1450) ⟨rfl, by decide, by decide, rfl⟩ (zroom_of hrm) ⟨Nat.zero_le _, Nat.zero_le _⟩ hst d rfl kk
/- X13_corner -/
set_option maxRecDepth 100000 in
theorem wkm_corner_126 {Γ : ZG} {l : Launch} {D : va_G} {cr : List vw_C} {ds : Nat → ClassId} {ad : Nat → Nat} {post : ZS → Prop} (X : ZX Γ cX13_corner RX13 3 48) (K : ZCap Γ l (ΘM D cr ds ad) 10 0 0) (hR : ZRetV Γ cX13_corner 0 0 post) {C3 : Int × Int × Int × Int × Int × ZS → Prop} (hC3 : ∀ (v1 : Int) (v2 : Int) (v3 : Int) (v4 : Int) (v5 : Int) (σ : ZS), C3 (v1, v2, v3, v4, v5, σ) → Z Γ 0 0 σ [] 3 [(0, .ref (ad 0)), (1, .int (iz v1)), (2, .int (iz v2)), (3, .int (iz v3)), (4, .int (iz v4)), (5, .int (iz v5))] []) (v1 : Int) (v2 : Int) (v3 : Int) (v4 : Int) (v5 : Int) (t0 : Int) (t1 : Int) (σ : ZS) (h : wm_corner_126 C3 post v1 v2 v3 v4 v5 t0 t1 σ) : Z Γ 0 0 σ [] 126 [(0, .ref (ad 0)), (1, .int (iz v1)), (2, .int (iz v2)), (3, .int (iz v3)), (4, .int (iz v4)), (5, .int (iz v5))] [.int (iz t0), .int (iz t1), .ref (ad 0)] := by
  refine z_iload X 5 dX13_corner_126 rfl ?_
  refine clm_lie X K rfl h (Nat.le_of_ble_eq_true rfl) dX13_corner_128 (fun σ1 h => ?_)
  refine z_iincK X K 5 (lv' := [(5, .int (iz (v5 + 1))), (0, .ref (ad 0)), (1, .int (iz v1)), (2, .int (iz v2)), (3, .int (iz v3)), (4, .int (iz v4))]) dX13_corner_131 rfl rfl rfl ?_
  refine z_goto (tgt := 3) X dX13_corner_134 rfl ?_
  exact z_sub [1, 2, 3, 4, 5, 0] rfl (hC3 _ _ _ _ _ _ h)
set_option maxRecDepth 100000 in
theorem wkm_corner_104 {Γ : ZG} {l : Launch} {D : va_G} {cr : List vw_C} {ds : Nat → ClassId} {ad : Nat → Nat} {post : ZS → Prop} (X : ZX Γ cX13_corner RX13 3 48) (K : ZCap Γ l (ΘM D cr ds ad) 10 0 0) (hR : ZRetV Γ cX13_corner 0 0 post) {C3 : Int × Int × Int × Int × Int × ZS → Prop} (hC3 : ∀ (v1 : Int) (v2 : Int) (v3 : Int) (v4 : Int) (v5 : Int) (σ : ZS), C3 (v1, v2, v3, v4, v5, σ) → Z Γ 0 0 σ [] 3 [(0, .ref (ad 0)), (1, .int (iz v1)), (2, .int (iz v2)), (3, .int (iz v3)), (4, .int (iz v4)), (5, .int (iz v5))] []) (v1 : Int) (v2 : Int) (v3 : Int) (v4 : Int) (v5 : Int) (v9 : Int) (t0 : Int) (σ : ZS) (h : wm_corner_104 C3 post v1 v2 v3 v4 v5 v9 t0 σ) : Z Γ 0 0 σ [] 104 [(0, .ref (ad 0)), (1, .int (iz v1)), (2, .int (iz v2)), (3, .int (iz v3)), (4, .int (iz v4)), (5, .int (iz v5)), (9, .int (iz v9))] [.int (iz t0), .ref (ad 0)] := by
  refine z_iload X 6 dX13_corner_104 rfl ?_
  refine z_bipush X 7 dX13_corner_106 rfl ?_
  obtain ⟨i1, h⟩ := h
  refine z_icmp_le X 124 dX13_corner_108 rfl i1 (by decide) (fun c2 => ?_) (fun c2 => ?_)
  · have h := h.1 c2
    refine z_iload X 6 dX13_corner_124 rfl ?_
    exact z_sub [0, 1, 2, 3, 4, 5] rfl (wkm_corner_126 X K hR hC3 _ _ _ _ _ _ _ _ h)
  · have h := h.2 c2
    refine z_aload_n X 0 dX13_corner_111 rfl ?_
    refine gM_16 X K dX13_corner_112 ?_
    refine z_iload X 6 dX13_corner_115 rfl ?_
    refine z_iadd X dX13_corner_117 ?_
    refine z_bipush X 16 dX13_corner_118 rfl ?_
    refine z_isub X dX13_corner_120 ?_
    refine z_goto (tgt := 126) X dX13_corner_121 rfl ?_
    exact z_sub [0, 1, 2, 3, 4, 5] rfl (wkm_corner_126 X K hR hC3 _ _ _ _ _ _ _ _ h)
set_option maxRecDepth 100000 in
theorem wkm_corner_66 {Γ : ZG} {l : Launch} {D : va_G} {cr : List vw_C} {ds : Nat → ClassId} {ad : Nat → Nat} {post : ZS → Prop} (X : ZX Γ cX13_corner RX13 3 48) (K : ZCap Γ l (ΘM D cr ds ad) 10 0 0) (hR : ZRetV Γ cX13_corner 0 0 post) {C3 : Int × Int × Int × Int × Int × ZS → Prop} (hC3 : ∀ (v1 : Int) (v2 : Int) (v3 : Int) (v4 : Int) (v5 : Int) (σ : ZS), C3 (v1, v2, v3, v4, v5, σ) → Z Γ 0 0 σ [] 3 [(0, .ref (ad 0)), (1, .int (iz v1)), (2, .int (iz v2)), (3, .int (iz v3)), (4, .int (iz v4)), (5, .int (iz v5))] []) (v1 : Int) (v2 : Int) (v3 : Int) (v4 : Int) (v5 : Int) (t0 : Int) (σ : ZS) (h : wm_corner_66 C3 post v1 v2 v3 v4 v5 t0 σ) : Z Γ 0 0 σ [] 66 [(0, .ref (ad 0)), (1, .int (iz v1)), (2, .int (iz v2)), (3, .int (iz v3)), (4, .int (iz v4)), (5, .int (iz v5))] [.int (iz t0)] := by
  refine z_istoreK X K (lv' := [(7, .int (iz t0)), (0, .ref (ad 0)), (1, .int (iz v1)), (2, .int (iz v2)), (3, .int (iz v3)), (4, .int (iz v4)), (5, .int (iz v5))]) dX13_corner_66 rfl rfl ?_
  refine z_iload X 0 dX13_corner_68 rfl ?_
  refine z_iconst X 4 dX13_corner_70 ?_
  obtain ⟨i1, h⟩ := h
  refine z_ishrm X 4 (M := 16) rfl rfl rfl dX13_corner_71 i1 ?_
  refine z_topi (fun v8_2 ev8_2 => ?_)
  have h := h v8_2 ev8_2
  refine z_istoreK X K (lv' := [(8, .int (iz v8_2)), (7, .int (iz t0)), (0, .ref (ad 0)), (1, .int (iz v1)), (2, .int (iz v2)), (3, .int (iz v3)), (4, .int (iz v4)), (5, .int (iz v5))]) dX13_corner_72 rfl rfl ?_
  refine z_iload X 1 dX13_corner_74 rfl ?_
  refine z_bipush X 15 dX13_corner_76 rfl ?_
  refine z_iandm X 4 (M := 16) rfl rfl rfl dX13_corner_78 ?_
  refine z_topi (fun v9_3 ev9_3 => ?_)
  have h := h v9_3 ev9_3
  refine z_istoreK X K (lv' := [(9, .int (iz v9_3)), (8, .int (iz v8_2)), (7, .int (iz t0)), (0, .ref (ad 0)), (1, .int (iz v1)), (2, .int (iz v2)), (3, .int (iz v3)), (4, .int (iz v4)), (5, .int (iz v5))]) dX13_corner_79 rfl rfl ?_
  refine z_aload_n X 3 dX13_corner_81 rfl ?_
  refine z_iload X 1 dX13_corner_82 rfl ?_
  refine z_bipush X 7 dX13_corner_84 rfl ?_
  obtain ⟨i4, h⟩ := h
  refine z_icmp_le X 102 dX13_corner_86 rfl i4 (by decide) (fun c5 => ?_) (fun c5 => ?_)
  · have h := h.1 c5
    refine z_iload X 1 dX13_corner_102 rfl ?_
    exact z_sub [3, 4, 5, 6, 7, 8, 0] rfl (wkm_corner_104 X K hR hC3 _ _ _ _ _ _ _ _ h)
  · have h := h.2 c5
    refine z_aload_n X 3 dX13_corner_89 rfl ?_
    refine gM_15 X K dX13_corner_90 ?_
    refine z_iload X 1 dX13_corner_93 rfl ?_
    refine z_iadd X dX13_corner_95 ?_
    refine z_bipush X 16 dX13_corner_96 rfl ?_
    refine z_isub X dX13_corner_98 ?_
    refine z_goto (tgt := 104) X dX13_corner_99 rfl ?_
    exact z_sub [3, 4, 5, 6, 7, 8, 0] rfl (wkm_corner_104 X K hR hC3 _ _ _ _ _ _ _ _ h)
set_option maxRecDepth 100000 in
theorem wkm_corner_43 {Γ : ZG} {l : Launch} {D : va_G} {cr : List vw_C} {ds : Nat → ClassId} {ad : Nat → Nat} {post : ZS → Prop} (X : ZX Γ cX13_corner RX13 3 48) (K : ZCap Γ l (ΘM D cr ds ad) 10 0 0) (hR : ZRetV Γ cX13_corner 0 0 post) {C3 : Int × Int × Int × Int × Int × ZS → Prop} (hC3 : ∀ (v1 : Int) (v2 : Int) (v3 : Int) (v4 : Int) (v5 : Int) (σ : ZS), C3 (v1, v2, v3, v4, v5, σ) → Z Γ 0 0 σ [] 3 [(0, .ref (ad 0)), (1, .int (iz v1)), (2, .int (iz v2)), (3, .int (iz v3)), (4, .int (iz v4)), (5, .int (iz v5))] []) (v1 : Int) (v2 : Int) (v3 : Int) (v4 : Int) (v5 : Int) (t0 : Int) (σ : ZS) (h : wm_corner_43 C3 post v1 v2 v3 v4 v5 t0 σ) : Z Γ 0 0 σ [] 43 [(0, .ref (ad 0)), (1, .int (iz v1)), (2, .int (iz v2)), (3, .int (iz v3)), (4, .int (iz v4)), (5, .int (iz v5))] [.int (iz t0)] := by
  refine z_istoreK X K (lv' := [(6, .int (iz t0)), (0, .ref (ad 0)), (1, .int (iz v1)), (2, .int (iz v2)), (3, .int (iz v3)), (4, .int (iz v4)), (5, .int (iz v5))]) dX13_corner_43 rfl rfl ?_
  refine z_iload X 6 dX13_corner_45 rfl ?_
  refine z_iconst X 2 dX13_corner_47 ?_
  obtain ⟨i1, h⟩ := h
  obtain ⟨g2, h⟩ := h
  refine z_irem X dX13_corner_48 ⟨i1, (by decide), g2, (by decide)⟩ ?_
  obtain ⟨i3, h⟩ := h
  refine z_if_ne X 60 dX13_corner_49 rfl i3 (fun c4 => ?_) (fun c4 => ?_)
  · have h := h.1 c4
    refine z_iload X 0 dX13_corner_60 rfl ?_
    refine z_sipush X 255 dX13_corner_62 rfl ?_
    refine z_iandm X 8 (M := 256) rfl rfl rfl dX13_corner_65 ?_
    exact z_sub [1, 2, 3, 4, 5, 6] rfl (wkm_corner_66 X K hR hC3 _ _ _ _ _ _ _ h)
  · have h := h.2 c4
    refine z_iload X 0 dX13_corner_52 rfl ?_
    refine z_bipush X 8 dX13_corner_54 rfl ?_
    obtain ⟨i5, h⟩ := h
    refine z_ishrm X 8 (M := 256) rfl rfl rfl dX13_corner_56 i5 ?_
    refine z_goto (tgt := 66) X dX13_corner_57 rfl ?_
    exact z_sub [1, 2, 3, 4, 5, 6] rfl (wkm_corner_66 X K hR hC3 _ _ _ _ _ _ _ h)
set_option maxRecDepth 100000 in
theorem wkm_corner_3 {Γ : ZG} {l : Launch} {D : va_G} {cr : List vw_C} {ds : Nat → ClassId} {ad : Nat → Nat} {post : ZS → Prop} (X : ZX Γ cX13_corner RX13 3 48) (K : ZCap Γ l (ΘM D cr ds ad) 10 0 0) (hR : ZRetV Γ cX13_corner 0 0 post) : ∀ (N : Nat) (v1 : Int) (v2 : Int) (v3 : Int) (v4 : Int) (v5 : Int) (σ : ZS), zfix (wbm_corner_3 post) N (v1, v2, v3, v4, v5, σ) → Z Γ 0 0 σ [] 3 [(0, .ref (ad 0)), (1, .int (iz v1)), (2, .int (iz v2)), (3, .int (iz v3)), (4, .int (iz v4)), (5, .int (iz v5))] [] := by
  intro N
  induction N with
  | zero => intro v1 v2 v3 v4 v5 σ h; exact False.elim h
  | succ N ih =>
    intro v1 v2 v3 v4 v5 σ h
    have h : wbm_corner_3 post (zfix (wbm_corner_3 post) N) (v1, v2, v3, v4, v5, σ) := h
    have hC3 := ih
    clear ih
    generalize zfix (wbm_corner_3 post) N = C3 at h hC3
    dsimp only [wbm_corner_3] at h
    refine z_iload X 5 dX13_corner_3 rfl ?_
    refine z_bipush X 8 dX13_corner_5 rfl ?_
    obtain ⟨i1, h⟩ := h
    refine z_icmp_ge X 137 dX13_corner_7 rfl i1 (by decide) (fun c2 => ?_) (fun c2 => ?_)
    · have h := h.1 c2
      refine z_aload_n X 0 dX13_corner_137 rfl ?_
      refine z_dup X dX13_corner_138 rfl ?_
      refine gM_17 X K dX13_corner_139 ?_
      refine z_iconst X 1 dX13_corner_142 ?_
      refine z_iadd X dX13_corner_143 ?_
      refine pM_17 X K dX13_corner_144 (fun σ3 eσ3 => ?_)
      have h := h σ3 eσ3
      exact hR _ _ _ _ _ _ dX13_corner_147 (Nat.le_refl 0) (Nat.le_refl 0) h
    · have h := h.2 c2
      refine z_iload X 5 dX13_corner_10 rfl ?_
      refine z_iconst X 2 dX13_corner_12 ?_
      refine z_icmp_ge X 20 dX13_corner_13 rfl i1 (by decide) (fun c4 => ?_) (fun c4 => ?_)
      · have h := h.1 c4
        refine z_iload X 5 dX13_corner_20 rfl ?_
        refine z_iconst X 4 dX13_corner_22 ?_
        refine z_icmp_ge X 30 dX13_corner_23 rfl i1 (by decide) (fun c5 => ?_) (fun c5 => ?_)
        · have h := h.1 c5
          refine z_iload X 5 dX13_corner_30 rfl ?_
          refine z_bipush X 6 dX13_corner_32 rfl ?_
          refine z_icmp_ge X 41 dX13_corner_34 rfl i1 (by decide) (fun c6 => ?_) (fun c6 => ?_)
          · have h := h.1 c6
            refine z_iload X 4 dX13_corner_41 rfl ?_
            exact z_sub [0, 1, 2, 3, 4, 5] rfl (wkm_corner_43 X K hR hC3 _ _ _ _ _ _ _ h)
          · have h := h.2 c6
            refine z_iload_n X 3 dX13_corner_37 rfl ?_
            refine z_goto (tgt := 43) X dX13_corner_38 rfl ?_
            exact z_sub [0, 1, 2, 3, 4, 5] rfl (wkm_corner_43 X K hR hC3 _ _ _ _ _ _ _ h)
        · have h := h.2 c5
          refine z_iload_n X 2 dX13_corner_26 rfl ?_
          refine z_goto (tgt := 43) X dX13_corner_27 rfl ?_
          exact z_sub [0, 1, 2, 3, 4, 5] rfl (wkm_corner_43 X K hR hC3 _ _ _ _ _ _ _ h)
      · have h := h.2 c4
        refine z_iload_n X 1 dX13_corner_16 rfl ?_
        refine z_goto (tgt := 43) X dX13_corner_17 rfl ?_
        exact z_sub [0, 1, 2, 3, 4, 5] rfl (wkm_corner_43 X K hR hC3 _ _ _ _ _ _ _ h)
set_option maxRecDepth 100000 in
theorem mt_corner (l : Launch) (D : va_G) (cr : List vw_C) (ds : Nat → ClassId) (ad : Nat → Nat) (a0 : Int) (a1 : Int) (a2 : Int) (a3 : Int) (σ : ZS) (post : ZS → Prop) (h : wm_corner a0 a1 a2 a3 σ post) : ZMetV l (ΘM D cr ds ad) yX13_corner cX13_corner 10 3 48 0 0 [.ref (ad 0), .int (iz a0), .int (iz a1), .int (iz a2), .int (iz a3)] σ post := by
  refine ZMetV.of (by decide) (Nat.le_of_ble_eq_true rfl) (fun Γ X K hR => ?_)
  have X : ZX Γ cX13_corner RX13 3 48 := X
  refine z_sub [0, 1, 2, 3, 4] (lv' := [(0, .ref (ad 0)), (1, .int (iz a0)), (2, .int (iz a1)), (3, .int (iz a2)), (4, .int (iz a3))]) rfl ?_
  refine z_iconst X 0 dX13_corner_0 ?_
  refine z_istoreK X K (lv' := [(5, .int (iz 0)), (0, .ref (ad 0)), (1, .int (iz a0)), (2, .int (iz a1)), (3, .int (iz a2)), (4, .int (iz a3))]) dX13_corner_1 rfl rfl ?_
  obtain ⟨N, h⟩ := h
  exact z_sub [1, 2, 3, 4, 5, 0] rfl (wkm_corner_3 X K hR N _ _ _ _ _ _ h)
set_option maxRecDepth 100000 in
theorem clm_corner {Γ : ZG} {cc : ByteArray} {fr lo nL pc : Nat} {lv : List (Nat × Value)} {st : List Value} {l : Launch} {D : va_G} {cr : List vw_C} {ds : Nat → ClassId} {ad : Nat → Nat} {a0 : Int} {a1 : Int} {a2 : Int} {a3 : Int} {σ : ZS} {post : ZS → Prop} (X : ZX Γ cc RX13 fr lo) (K : ZCap Γ l (ΘM D cr ds ad) nL 0 0) (hrm : zroom 4 77 fr lo = true) (h : wm_corner a0 a1 a2 a3 σ post) (hst : (st.map fun v => v.category).sum ≤ 8) (d : decode cc pc = .ok (.invokevirtual 170, 3)) (kk : ∀ (σ' : ZS), post σ' → Z Γ 0 0 σ' [] (pc + 3) lv (st)) : Z Γ 0 0 σ [] pc lv (.int (iz a3) :: .int (iz a2) :: .int (iz a1) :: .int (iz a0) :: .ref (ad 0) :: st) :=
  z_callVV' (C := RX13) (q0 := 0) X K (mt_corner l D cr ds ad a0 a1 a2 a3 σ post h) (Nat.le_of_ble_eq_true rfl) rfl rfl rfl (lw_V q1443 q1445 qs48 q127 q1446) ⟨rfl, by decide, by decide, rfl⟩ (zroom_of hrm) ⟨Nat.zero_le _, Nat.zero_le _⟩ hst d rfl kk
/- X13_corners -/
set_option maxRecDepth 100000 in
theorem wkm_corners_102 {Γ : ZG} {l : Launch} {D : va_G} {cr : List vw_C} {ds : Nat → ClassId} {ad : Nat → Nat} {post : ZS → Prop} (X : ZX Γ cX13_corners RX13 4 77) (K : ZCap Γ l (ΘM D cr ds ad) 3 0 0) (hR : ZRetV Γ cX13_corners 0 0 post) (v1 : Int) (v2 : Int) (σ : ZS) (h : wm_corners_102 post v1 v2 σ) : Z Γ 0 0 σ [] 102 [(0, .ref (ad 0)), (1, .int (iz v1)), (2, .int (iz v2))] [] := by
  refine z_iload_n X 1 dX13_corners_102 rfl ?_
  refine z_aload_n X 0 dX13_corners_103 rfl ?_
  refine gM_15 X K dX13_corners_104 ?_
  refine z_iconst X 4 dX13_corners_107 ?_
  refine z_iadd X dX13_corners_108 ?_
  obtain ⟨i1, h⟩ := h
  obtain ⟨i2, h⟩ := h
  refine z_icmp_ne X 142 dX13_corners_109 rfl i1 i2 (fun c3 => ?_) (fun c3 => ?_)
  · have h := h.1 c3
    exact hR _ _ _ _ _ _ dX13_corners_142 (Nat.le_refl 0) (Nat.le_refl 0) h
  · have h := h.2 c3
    refine z_iload_n X 2 dX13_corners_112 rfl ?_
    refine z_iconst X 2 dX13_corners_113 ?_
    obtain ⟨i4, h⟩ := h
    refine z_icmp_ne X 142 dX13_corners_114 rfl i4 (by decide) (fun c5 => ?_) (fun c5 => ?_)
    · have h := h.1 c5
      exact hR _ _ _ _ _ _ dX13_corners_142 (Nat.le_refl 0) (Nat.le_refl 0) h
    · have h := h.2 c5
      refine z_aload_n X 0 dX13_corners_117 rfl ?_
      refine gM_16 X K dX13_corners_118 ?_
      refine z_bipush X 8 dX13_corners_121 rfl ?_
      obtain ⟨i6, h⟩ := h
      obtain ⟨g7, h⟩ := h
      refine z_irem X dX13_corners_123 ⟨i6, (by decide), g7, (by decide)⟩ ?_
      obtain ⟨i8, h⟩ := h
      refine z_if_ne X 142 dX13_corners_124 rfl i8 (fun c9 => ?_) (fun c9 => ?_)
      · have h := h.1 c9
        exact hR _ _ _ _ _ _ dX13_corners_142 (Nat.le_refl 0) (Nat.le_refl 0) h
      · have h := h.2 c9
        refine z_aload_n X 0 dX13_corners_127 rfl ?_
        refine z_ldc X 61695 q1458 rfl dX13_corners_128 ?_
        refine z_sipush X 3342 dX13_corners_130 rfl ?_
        refine z_sipush X 3869 dX13_corners_133 rfl ?_
        refine z_sipush X 7711 dX13_corners_136 rfl ?_
        refine clm_corner X K rfl h (Nat.le_of_ble_eq_true rfl) dX13_corners_139 (fun σ10 h => ?_)
        exact hR _ _ _ _ _ _ dX13_corners_142 (Nat.le_refl 0) (Nat.le_refl 0) h
set_option maxRecDepth 100000 in
theorem wkm_corners_63 {Γ : ZG} {l : Launch} {D : va_G} {cr : List vw_C} {ds : Nat → ClassId} {ad : Nat → Nat} {post : ZS → Prop} (X : ZX Γ cX13_corners RX13 4 77) (K : ZCap Γ l (ΘM D cr ds ad) 3 0 0) (hR : ZRetV Γ cX13_corners 0 0 post) (v1 : Int) (v2 : Int) (σ : ZS) (h : wm_corners_63 post v1 v2 σ) : Z Γ 0 0 σ [] 63 [(0, .ref (ad 0)), (1, .int (iz v1)), (2, .int (iz v2))] [] := by
  refine z_iload_n X 1 dX13_corners_63 rfl ?_
  refine z_aload_n X 0 dX13_corners_64 rfl ?_
  refine gM_15 X K dX13_corners_65 ?_
  refine z_iconst X 2 dX13_corners_68 ?_
  refine z_isub X dX13_corners_69 ?_
  obtain ⟨i1, h⟩ := h
  obtain ⟨i2, h⟩ := h
  refine z_icmp_ne X 102 dX13_corners_70 rfl i1 i2 (fun c3 => ?_) (fun c3 => ?_)
  · have h := h.1 c3
    exact z_sub [0, 1, 2] rfl (wkm_corners_102 X K hR _ _ _ h)
  · have h := h.2 c3
    refine z_iload_n X 2 dX13_corners_73 rfl ?_
    obtain ⟨i4, h⟩ := h
    refine z_if_ne X 102 dX13_corners_74 rfl i4 (fun c5 => ?_) (fun c5 => ?_)
    · have h := h.1 c5
      exact z_sub [0, 1, 2] rfl (wkm_corners_102 X K hR _ _ _ h)
    · have h := h.2 c5
      refine z_aload_n X 0 dX13_corners_77 rfl ?_
      refine gM_16 X K dX13_corners_78 ?_
      refine z_bipush X 8 dX13_corners_81 rfl ?_
      obtain ⟨i6, h⟩ := h
      obtain ⟨g7, h⟩ := h
      refine z_irem X dX13_corners_83 ⟨i6, (by decide), g7, (by decide)⟩ ?_
      refine z_iconst X 4 dX13_corners_84 ?_
      obtain ⟨i8, h⟩ := h
      refine z_icmp_ne X 102 dX13_corners_85 rfl i8 (by decide) (fun c9 => ?_) (fun c9 => ?_)
      · have h := h.1 c9
        exact z_sub [0, 1, 2] rfl (wkm_corners_102 X K hR _ _ _ h)
      · have h := h.2 c9
        refine z_aload_n X 0 dX13_corners_88 rfl ?_
        refine z_ldc X 53472 q1455 rfl dX13_corners_89 ?_
        refine z_ldc X 61454 q1457 rfl dX13_corners_91 ?_
        refine z_sipush X 3871 dX13_corners_93 rfl ?_
        refine z_sipush X 12095 dX13_corners_96 rfl ?_
        refine clm_corner X K rfl h (Nat.le_of_ble_eq_true rfl) dX13_corners_99 (fun σ10 h => ?_)
        exact z_sub [0, 1, 2] rfl (wkm_corners_102 X K hR _ _ _ h)
set_option maxRecDepth 100000 in
theorem wkm_corners_26 {Γ : ZG} {l : Launch} {D : va_G} {cr : List vw_C} {ds : Nat → ClassId} {ad : Nat → Nat} {post : ZS → Prop} (X : ZX Γ cX13_corners RX13 4 77) (K : ZCap Γ l (ΘM D cr ds ad) 3 0 0) (hR : ZRetV Γ cX13_corners 0 0 post) (v1 : Int) (v2 : Int) (σ : ZS) (h : wm_corners_26 post v1 v2 σ) : Z Γ 0 0 σ [] 26 [(0, .ref (ad 0)), (1, .int (iz v1)), (2, .int (iz v2))] [] := by
  refine z_iload_n X 1 dX13_corners_26 rfl ?_
  refine z_aload_n X 0 dX13_corners_27 rfl ?_
  refine gM_15 X K dX13_corners_28 ?_
  refine z_iconst X 2 dX13_corners_31 ?_
  refine z_isub X dX13_corners_32 ?_
  obtain ⟨i1, h⟩ := h
  obtain ⟨i2, h⟩ := h
  refine z_icmp_ne X 63 dX13_corners_33 rfl i1 i2 (fun c3 => ?_) (fun c3 => ?_)
  · have h := h.1 c3
    exact z_sub [0, 1, 2] rfl (wkm_corners_63 X K hR _ _ _ h)
  · have h := h.2 c3
    refine z_iload_n X 2 dX13_corners_36 rfl ?_
    obtain ⟨i4, h⟩ := h
    refine z_if_ne X 63 dX13_corners_37 rfl i4 (fun c5 => ?_) (fun c5 => ?_)
    · have h := h.1 c5
      exact z_sub [0, 1, 2] rfl (wkm_corners_63 X K hR _ _ _ h)
    · have h := h.2 c5
      refine z_aload_n X 0 dX13_corners_40 rfl ?_
      refine gM_16 X K dX13_corners_41 ?_
      refine z_iconst X 4 dX13_corners_44 ?_
      obtain ⟨i6, h⟩ := h
      obtain ⟨g7, h⟩ := h
      refine z_irem X dX13_corners_45 ⟨i6, (by decide), g7, (by decide)⟩ ?_
      obtain ⟨i8, h⟩ := h
      refine z_if_eq X 63 dX13_corners_46 rfl i8 (fun c9 => ?_) (fun c9 => ?_)
      · have h := h.1 c9
        exact z_sub [0, 1, 2] rfl (wkm_corners_63 X K hR _ _ _ h)
      · have h := h.2 c9
        refine z_aload_n X 0 dX13_corners_49 rfl ?_
        refine z_ldc X 53472 q1455 rfl dX13_corners_50 ?_
        refine z_ldc X 61452 q1456 rfl dX13_corners_52 ?_
        refine z_sipush X 3342 dX13_corners_54 rfl ?_
        refine z_sipush X 3871 dX13_corners_57 rfl ?_
        refine clm_corner X K rfl h (Nat.le_of_ble_eq_true rfl) dX13_corners_60 (fun σ10 h => ?_)
        exact z_sub [0, 1, 2] rfl (wkm_corners_63 X K hR _ _ _ h)
set_option maxRecDepth 100000 in
theorem mt_corners (l : Launch) (D : va_G) (cr : List vw_C) (ds : Nat → ClassId) (ad : Nat → Nat) (a0 : Int) (a1 : Int) (σ : ZS) (post : ZS → Prop) (h : wm_corners a0 a1 σ post) : ZMetV l (ΘM D cr ds ad) yX13_corners cX13_corners 3 4 77 0 0 [.ref (ad 0), .int (iz a0), .int (iz a1)] σ post := by
  refine ZMetV.of (by decide) (Nat.le_of_ble_eq_true rfl) (fun Γ X K hR => ?_)
  have X : ZX Γ cX13_corners RX13 4 77 := X
  refine z_sub [0, 1, 2] (lv' := [(0, .ref (ad 0)), (1, .int (iz a0)), (2, .int (iz a1))]) rfl ?_
  refine z_iload_n X 1 dX13_corners_0 rfl ?_
  refine z_aload_n X 0 dX13_corners_1 rfl ?_
  refine gM_15 X K dX13_corners_2 ?_
  obtain ⟨i1, h⟩ := h
  obtain ⟨i2, h⟩ := h
  refine z_icmp_ne X 26 dX13_corners_5 rfl i1 i2 (fun c3 => ?_) (fun c3 => ?_)
  · have h := h.1 c3
    exact z_sub [0, 1, 2] rfl (wkm_corners_26 X K hR _ _ _ h)
  · have h := h.2 c3
    refine z_iload_n X 2 dX13_corners_8 rfl ?_
    obtain ⟨i4, h⟩ := h
    refine z_if_ne X 26 dX13_corners_9 rfl i4 (fun c5 => ?_) (fun c5 => ?_)
    · have h := h.1 c5
      exact z_sub [0, 1, 2] rfl (wkm_corners_26 X K hR _ _ _ h)
    · have h := h.2 c5
      refine z_aload_n X 0 dX13_corners_12 rfl ?_
      refine z_ldc X 61681 q1441 rfl dX13_corners_13 ?_
      refine z_ldc X 61966 q1442 rfl dX13_corners_15 ?_
      refine z_sipush X 3871 dX13_corners_17 rfl ?_
      refine z_sipush X 12095 dX13_corners_20 rfl ?_
      refine clm_corner X K rfl h (Nat.le_of_ble_eq_true rfl) dX13_corners_23 (fun σ6 h => ?_)
      exact z_sub [0, 1, 2] rfl (wkm_corners_26 X K hR _ _ _ h)
set_option maxRecDepth 100000 in
theorem clm_corners {Γ : ZG} {cc : ByteArray} {fr lo nL pc : Nat} {lv : List (Nat × Value)} {st : List Value} {l : Launch} {D : va_G} {cr : List vw_C} {ds : Nat → ClassId} {ad : Nat → Nat} {a0 : Int} {a1 : Int} {σ : ZS} {post : ZS → Prop} (X : ZX Γ cc RX13 fr lo) (K : ZCap Γ l (ΘM D cr ds ad) nL 0 0) (hrm : zroom 5 99 fr lo = true) (h : wm_corners a0 a1 σ post) (hst : (st.map fun v => v.category).sum ≤ 8) (d : decode cc pc = .ok (.invokevirtual 157, 3)) (kk : ∀ (σ' : ZS), post σ' → Z Γ 0 0 σ' [] (pc + 3) lv (st)) : Z Γ 0 0 σ [] pc lv (.int (iz a1) :: .int (iz a0) :: .ref (ad 0) :: st) :=
  z_callVV' (C := RX13) (q0 := 0) X K (mt_corners l D cr ds ad a0 a1 σ post h) (Nat.le_of_ble_eq_true rfl) rfl rfl rfl (lw_V q1437 q1439 qs47 q127 q1440) ⟨rfl, by decide, by decide, rfl⟩ (zroom_of hrm) ⟨Nat.zero_le _, Nat.zero_le _⟩ hst d rfl kk
/- X13_isFree -/
set_option maxRecDepth 100000 in
theorem mt_isFree (l : Launch) (D : va_G) (cr : List vw_C) (ds : Nat → ClassId) (ad : Nat → Nat) (a0 : Int) (a1 : Int) (σ : ZS) (post : Int → ZS → Prop) (h : wm_isFree a0 a1 σ post) : ZMetI l (ΘM D cr ds ad) yX13_isFree cX13_isFree 3 .boolean 1 0 0 0 [.ref (ad 0), .int (iz a0), .int (iz a1)] σ (fun r σ => (r = 0 ∨ r = 1) ∧ post r σ) := by
  refine ZMetI.of (by decide) (Nat.le_of_ble_eq_true rfl) (fun Γ X K hR => ?_)
  have X : ZX Γ cX13_isFree RX13 1 0 := X
  refine z_sub [0, 1, 2] (lv' := [(0, .ref (ad 0)), (1, .int (iz a0)), (2, .int (iz a1))]) rfl ?_
  refine z_aload_n X 0 dX13_isFree_0 rfl ?_
  refine gM_13 X K dX13_isFree_1 ?_
  refine z_aload_n X 0 dX13_isFree_4 rfl ?_
  refine gM_16 X K dX13_isFree_5 ?_
  refine z_iload_n X 1 dX13_isFree_8 rfl ?_
  refine z_imul X dX13_isFree_9 ?_
  refine z_iload_n X 2 dX13_isFree_10 rfl ?_
  refine z_iadd X dX13_isFree_11 ?_
  obtain ⟨x1, h⟩ := h
  refine aM_10 X K dX13_isFree_12 x1 ?_
  obtain ⟨i2, h⟩ := h
  refine z_if_ne X 20 dX13_isFree_13 rfl i2 (fun c3 => ?_) (fun c3 => ?_)
  · have h := h.1 c3
    refine z_iconst X 0 dX13_isFree_20 ?_
    exact hR _ _ _ _ _ _ _ dX13_isFree_21 (z_nb (Or.inl rfl)) (Nat.le_refl 0) (Nat.le_refl 0) ⟨(Or.inl rfl), h⟩
  · have h := h.2 c3
    refine z_iconst X 1 dX13_isFree_16 ?_
    refine z_goto (tgt := 21) X dX13_isFree_17 rfl ?_
    exact hR _ _ _ _ _ _ _ dX13_isFree_21 (z_nb (Or.inr rfl)) (Nat.le_refl 0) (Nat.le_refl 0) ⟨(Or.inr rfl), h⟩
set_option maxRecDepth 100000 in
theorem clm_isFree {Γ : ZG} {cc : ByteArray} {fr lo nL pc : Nat} {lv : List (Nat × Value)} {st : List Value} {l : Launch} {D : va_G} {cr : List vw_C} {ds : Nat → ClassId} {ad : Nat → Nat} {a0 : Int} {a1 : Int} {σ : ZS} {post : Int → ZS → Prop} (X : ZX Γ cc RX13 fr lo) (K : ZCap Γ l (ΘM D cr ds ad) nL 0 0) (hrm : zroom 2 22 fr lo = true) (h : wm_isFree a0 a1 σ post) (hst : (st.map fun v => v.category).sum ≤ 8) (d : decode cc pc = .ok (.invokevirtual 161, 3)) (kk : ∀ (r : Int) (σ' : ZS), (fun r σ => (r = 0 ∨ r = 1) ∧ post r σ) r σ' → Z Γ 0 0 σ' [] (pc + 3) lv (.int (iz r) :: st)) : Z Γ 0 0 σ [] pc lv (.int (iz a1) :: .int (iz a0) :: .ref (ad 0) :: st) :=
  z_callVI' (C := RX13) (q0 := 0) X K (mt_isFree l D cr ds ad a0 a1 σ post h) (Nat.le_of_ble_eq_true rfl) rfl rfl rfl (lw_V q1459 q1461 qs51 q127 q1462) ⟨rfl, by decide, by decide, rfl⟩ (zroom_of hrm) ⟨Nat.zero_le _, Nat.zero_le _⟩ hst d rfl kk
/- X13_round -/
set_option maxRecDepth 100000 in
theorem wkm_round_66 {Γ : ZG} {l : Launch} {D : va_G} {cr : List vw_C} {ds : Nat → ClassId} {ad : Nat → Nat} {post : ZS → Prop} (X : ZX Γ cX13_round RX13 3 48) (K : ZCap Γ l (ΘM D cr ds ad) 6 0 0) (hR : ZRetV Γ cX13_round 0 0 post) (v3 : Int) (v4 : Int) (v5 : Int) (σ : ZS) (h : wm_round_66 post v3 v4 v5 σ) : Z Γ 0 0 σ [] 66 [(0, .ref (ad 0)), (3, .int (iz v3)), (4, .int (iz v4)), (5, .int (iz v5))] [] := by
  refine z_aload_n X 0 dX13_round_66 rfl ?_
  refine z_iload X 2 dX13_round_67 rfl ?_
  refine z_iload X 3 dX13_round_69 rfl ?_
  refine z_iload_n X 1 dX13_round_71 rfl ?_
  refine clm_lie X K rfl h (Nat.le_of_ble_eq_true rfl) dX13_round_72 (fun σ1 h => ?_)
  exact hR _ _ _ _ _ _ dX13_round_75 (Nat.le_refl 0) (Nat.le_refl 0) h
set_option maxRecDepth 100000 in
theorem wkm_round_36 {Γ : ZG} {l : Launch} {D : va_G} {cr : List vw_C} {ds : Nat → ClassId} {ad : Nat → Nat} {post : ZS → Prop} (X : ZX Γ cX13_round RX13 3 48) (K : ZCap Γ l (ΘM D cr ds ad) 6 0 0) (hR : ZRetV Γ cX13_round 0 0 post) (v3 : Int) (v4 : Int) (v5 : Int) (σ : ZS) (h : wm_round_36 post v3 v4 v5 σ) : Z Γ 0 0 σ [] 36 [(0, .ref (ad 0)), (3, .int (iz v3)), (4, .int (iz v4)), (5, .int (iz v5))] [] := by
  refine z_iload X 3 dX13_round_36 rfl ?_
  obtain ⟨i1, h⟩ := h
  refine z_if_ge X 66 dX13_round_38 rfl i1 (fun c2 => ?_) (fun c2 => ?_)
  · have h := h.1 c2
    exact z_sub [0, 1, 2, 3] rfl (wkm_round_66 X K hR _ _ _ _ h)
  · have h := h.2 c2
    refine z_iload X 3 dX13_round_41 rfl ?_
    refine z_aload_n X 0 dX13_round_43 rfl ?_
    refine gM_16 X K dX13_round_44 ?_
    refine z_iadd X dX13_round_47 ?_
    refine z_topi (fun v5_3 ev5_3 => ?_)
    have h := h v5_3 ev5_3
    refine z_istoreK X K (lv' := [(5, .int (iz v5_3)), (0, .ref (ad 0)), (3, .int (iz v3)), (4, .int (iz v4))]) dX13_round_48 rfl rfl ?_
    refine z_iload X 3 dX13_round_50 rfl ?_
    refine z_iconst X 4 dX13_round_52 ?_
    refine z_aload_n X 1 dX13_round_53 rfl ?_
    refine gM_16 X K dX13_round_54 ?_
    refine z_iconst X 4 dX13_round_57 ?_
    refine z_iadd X dX13_round_58 ?_
    refine z_bipush X 8 dX13_round_59 rfl ?_
    obtain ⟨i4, h⟩ := h
    obtain ⟨g5, h⟩ := h
    refine z_irem X dX13_round_61 ⟨i4, (by decide), g5, (by decide)⟩ ?_
    refine z_isub X dX13_round_62 ?_
    refine z_iadd X dX13_round_63 ?_
    refine z_topi (fun v4_6 ev4_6 => ?_)
    have h := h v4_6 ev4_6
    refine z_istoreK X K (lv' := [(4, .int (iz v4_6)), (5, .int (iz v5_3)), (0, .ref (ad 0)), (3, .int (iz v3))]) dX13_round_64 rfl rfl ?_
    exact z_sub [2, 3, 0, 1] rfl (wkm_round_66 X K hR _ _ _ _ h)
set_option maxRecDepth 100000 in
theorem mt_round (l : Launch) (D : va_G) (cr : List vw_C) (ds : Nat → ClassId) (ad : Nat → Nat) (a0 : Int) (a1 : Int) (a2 : Int) (σ : ZS) (post : ZS → Prop) (h : wm_round a0 a1 a2 σ post) : ZMetV l (ΘM D cr ds ad) yX13_round cX13_round 6 3 48 0 0 [.ref (ad 0), .int (iz a0), .int (iz a1), .int (iz a2)] σ post := by
  refine ZMetV.of (by decide) (Nat.le_of_ble_eq_true rfl) (fun Γ X K hR => ?_)
  have X : ZX Γ cX13_round RX13 3 48 := X
  refine z_sub [0, 1, 2, 3] (lv' := [(0, .ref (ad 0)), (1, .int (iz a0)), (2, .int (iz a1)), (3, .int (iz a2))]) rfl ?_
  refine z_iload_n X 1 dX13_round_0 rfl ?_
  refine z_istoreK X K (lv' := [(4, .int (iz a0)), (0, .ref (ad 0)), (1, .int (iz a0)), (2, .int (iz a1)), (3, .int (iz a2))]) dX13_round_1 rfl rfl ?_
  refine z_iload_n X 3 dX13_round_3 rfl ?_
  refine z_istoreK X K (lv' := [(5, .int (iz a1)), (4, .int (iz a0)), (0, .ref (ad 0)), (1, .int (iz a0)), (2, .int (iz a1)), (3, .int (iz a2))]) dX13_round_4 rfl rfl ?_
  refine z_iload X 1 dX13_round_6 rfl ?_
  obtain ⟨i1, h⟩ := h
  refine z_if_ge X 36 dX13_round_8 rfl i1 (fun c2 => ?_) (fun c2 => ?_)
  · have h := h.1 c2
    exact z_sub [2, 5, 1, 0] rfl (wkm_round_36 X K hR _ _ _ _ h)
  · have h := h.2 c2
    refine z_iload X 1 dX13_round_11 rfl ?_
    refine z_aload_n X 2 dX13_round_13 rfl ?_
    refine gM_15 X K dX13_round_14 ?_
    refine z_iadd X dX13_round_17 ?_
    refine z_topi (fun v4_3 ev4_3 => ?_)
    have h := h v4_3 ev4_3
    refine z_istoreK X K (lv' := [(4, .int (iz v4_3)), (5, .int (iz a1)), (0, .ref (ad 0)), (1, .int (iz a0)), (2, .int (iz a1)), (3, .int (iz a2))]) dX13_round_18 rfl rfl ?_
    refine z_iload X 1 dX13_round_20 rfl ?_
    refine z_iconst X 4 dX13_round_22 ?_
    refine z_aload_n X 2 dX13_round_23 rfl ?_
    refine gM_15 X K dX13_round_24 ?_
    refine z_iconst X 4 dX13_round_27 ?_
    refine z_iadd X dX13_round_28 ?_
    refine z_bipush X 8 dX13_round_29 rfl ?_
    obtain ⟨i4, h⟩ := h
    obtain ⟨g5, h⟩ := h
    refine z_irem X dX13_round_31 ⟨i4, (by decide), g5, (by decide)⟩ ?_
    refine z_isub X dX13_round_32 ?_
    refine z_iadd X dX13_round_33 ?_
    refine z_topi (fun v5_6 ev5_6 => ?_)
    have h := h v5_6 ev5_6
    refine z_istoreK X K (lv' := [(5, .int (iz v5_6)), (4, .int (iz v4_3)), (0, .ref (ad 0)), (1, .int (iz a0)), (2, .int (iz a1)), (3, .int (iz a2))]) dX13_round_34 rfl rfl ?_
    exact z_sub [2, 5, 1, 0] rfl (wkm_round_36 X K hR _ _ _ _ h)
set_option maxRecDepth 100000 in
theorem clm_round {Γ : ZG} {cc : ByteArray} {fr lo nL pc : Nat} {lv : List (Nat × Value)} {st : List Value} {l : Launch} {D : va_G} {cr : List vw_C} {ds : Nat → ClassId} {ad : Nat → Nat} {a0 : Int} {a1 : Int} {a2 : Int} {σ : ZS} {post : ZS → Prop} (X : ZX Γ cc RX13 fr lo) (K : ZCap Γ l (ΘM D cr ds ad) nL 0 0) (hrm : zroom 4 73 fr lo = true) (h : wm_round a0 a1 a2 σ post) (hst : (st.map fun v => v.category).sum ≤ 8) (d : decode cc pc = .ok (.invokevirtual 154, 3)) (kk : ∀ (σ' : ZS), post σ' → Z Γ 0 0 σ' [] (pc + 3) lv (st)) : Z Γ 0 0 σ [] pc lv (.int (iz a2) :: .int (iz a1) :: .int (iz a0) :: .ref (ad 0) :: st) :=
  z_callVV' (C := RX13) (q0 := 0) X K (mt_round l D cr ds ad a0 a1 a2 σ post h) (Nat.le_of_ble_eq_true rfl) rfl rfl rfl (lw_V q1467 q1469 qs53 q127 q1470) ⟨rfl, by decide, by decide, rfl⟩ (zroom_of hrm) ⟨Nat.zero_le _, Nat.zero_le _⟩ hst d rfl kk
/- X13_utah -/
set_option maxRecDepth 100000 in
theorem mt_utah (l : Launch) (D : va_G) (cr : List vw_C) (ds : Nat → ClassId) (ad : Nat → Nat) (a0 : Int) (a1 : Int) (σ : ZS) (post : ZS → Prop) (h : wm_utah a0 a1 σ post) : ZMetV l (ΘM D cr ds ad) yX13_utah cX13_utah 3 4 73 0 0 [.ref (ad 0), .int (iz a0), .int (iz a1)] σ post := by
  refine ZMetV.of (by decide) (Nat.le_of_ble_eq_true rfl) (fun Γ X K hR => ?_)
  have X : ZX Γ cX13_utah RX13 4 73 := X
  refine z_sub [0, 1, 2] (lv' := [(0, .ref (ad 0)), (1, .int (iz a0)), (2, .int (iz a1))]) rfl ?_
  refine z_aload_n X 0 dX13_utah_0 rfl ?_
  refine z_iload_n X 1 dX13_utah_1 rfl ?_
  refine z_iconst X 2 dX13_utah_2 ?_
  refine z_isub X dX13_utah_3 ?_
  refine z_iload_n X 2 dX13_utah_4 rfl ?_
  refine z_iconst X 2 dX13_utah_5 ?_
  refine z_isub X dX13_utah_6 ?_
  refine z_iconst X 0 dX13_utah_7 ?_
  refine clm_round X K rfl h (Nat.le_of_ble_eq_true rfl) dX13_utah_8 (fun σ1 h => ?_)
  refine z_aload_n X 0 dX13_utah_11 rfl ?_
  refine z_iload_n X 1 dX13_utah_12 rfl ?_
  refine z_iconst X 2 dX13_utah_13 ?_
  refine z_isub X dX13_utah_14 ?_
  refine z_iload_n X 2 dX13_utah_15 rfl ?_
  refine z_iconst X 1 dX13_utah_16 ?_
  refine z_isub X dX13_utah_17 ?_
  refine z_iconst X 1 dX13_utah_18 ?_
  refine clm_round X K rfl h (Nat.le_of_ble_eq_true rfl) dX13_utah_19 (fun σ2 h => ?_)
  refine z_aload_n X 0 dX13_utah_22 rfl ?_
  refine z_iload_n X 1 dX13_utah_23 rfl ?_
  refine z_iconst X 1 dX13_utah_24 ?_
  refine z_isub X dX13_utah_25 ?_
  refine z_iload_n X 2 dX13_utah_26 rfl ?_
  refine z_iconst X 2 dX13_utah_27 ?_
  refine z_isub X dX13_utah_28 ?_
  refine z_iconst X 2 dX13_utah_29 ?_
  refine clm_round X K rfl h (Nat.le_of_ble_eq_true rfl) dX13_utah_30 (fun σ3 h => ?_)
  refine z_aload_n X 0 dX13_utah_33 rfl ?_
  refine z_iload_n X 1 dX13_utah_34 rfl ?_
  refine z_iconst X 1 dX13_utah_35 ?_
  refine z_isub X dX13_utah_36 ?_
  refine z_iload_n X 2 dX13_utah_37 rfl ?_
  refine z_iconst X 1 dX13_utah_38 ?_
  refine z_isub X dX13_utah_39 ?_
  refine z_iconst X 3 dX13_utah_40 ?_
  refine clm_round X K rfl h (Nat.le_of_ble_eq_true rfl) dX13_utah_41 (fun σ4 h => ?_)
  refine z_aload_n X 0 dX13_utah_44 rfl ?_
  refine z_iload_n X 1 dX13_utah_45 rfl ?_
  refine z_iconst X 1 dX13_utah_46 ?_
  refine z_isub X dX13_utah_47 ?_
  refine z_iload_n X 2 dX13_utah_48 rfl ?_
  refine z_iconst X 4 dX13_utah_49 ?_
  refine clm_round X K rfl h (Nat.le_of_ble_eq_true rfl) dX13_utah_50 (fun σ5 h => ?_)
  refine z_aload_n X 0 dX13_utah_53 rfl ?_
  refine z_iload_n X 1 dX13_utah_54 rfl ?_
  refine z_iload_n X 2 dX13_utah_55 rfl ?_
  refine z_iconst X 2 dX13_utah_56 ?_
  refine z_isub X dX13_utah_57 ?_
  refine z_iconst X 5 dX13_utah_58 ?_
  refine clm_round X K rfl h (Nat.le_of_ble_eq_true rfl) dX13_utah_59 (fun σ6 h => ?_)
  refine z_aload_n X 0 dX13_utah_62 rfl ?_
  refine z_iload_n X 1 dX13_utah_63 rfl ?_
  refine z_iload_n X 2 dX13_utah_64 rfl ?_
  refine z_iconst X 1 dX13_utah_65 ?_
  refine z_isub X dX13_utah_66 ?_
  refine z_bipush X 6 dX13_utah_67 rfl ?_
  refine clm_round X K rfl h (Nat.le_of_ble_eq_true rfl) dX13_utah_69 (fun σ7 h => ?_)
  refine z_aload_n X 0 dX13_utah_72 rfl ?_
  refine z_iload_n X 1 dX13_utah_73 rfl ?_
  refine z_iload_n X 2 dX13_utah_74 rfl ?_
  refine z_bipush X 7 dX13_utah_75 rfl ?_
  refine clm_round X K rfl h (Nat.le_of_ble_eq_true rfl) dX13_utah_77 (fun σ8 h => ?_)
  refine z_aload_n X 0 dX13_utah_80 rfl ?_
  refine z_dup X dX13_utah_81 rfl ?_
  refine gM_17 X K dX13_utah_82 ?_
  refine z_iconst X 1 dX13_utah_85 ?_
  refine z_iadd X dX13_utah_86 ?_
  refine pM_17 X K dX13_utah_87 (fun σ9 eσ9 => ?_)
  have h := h σ9 eσ9
  exact hR _ _ _ _ _ _ dX13_utah_90 (Nat.le_refl 0) (Nat.le_refl 0) h
set_option maxRecDepth 100000 in
theorem clm_utah {Γ : ZG} {cc : ByteArray} {fr lo nL pc : Nat} {lv : List (Nat × Value)} {st : List Value} {l : Launch} {D : va_G} {cr : List vw_C} {ds : Nat → ClassId} {ad : Nat → Nat} {a0 : Int} {a1 : Int} {σ : ZS} {post : ZS → Prop} (X : ZX Γ cc RX13 fr lo) (K : ZCap Γ l (ΘM D cr ds ad) nL 0 0) (hrm : zroom 5 95 fr lo = true) (h : wm_utah a0 a1 σ post) (hst : (st.map fun v => v.category).sum ≤ 8) (d : decode cc pc = .ok (.invokevirtual 165, 3)) (kk : ∀ (σ' : ZS), post σ' → Z Γ 0 0 σ' [] (pc + 3) lv (st)) : Z Γ 0 0 σ [] pc lv (.int (iz a1) :: .int (iz a0) :: .ref (ad 0) :: st) :=
  z_callVV' (C := RX13) (q0 := 0) X K (mt_utah l D cr ds ad a0 a1 σ post h) (Nat.le_of_ble_eq_true rfl) rfl rfl rfl (lw_V q1463 q1465 qs52 q127 q1466) ⟨rfl, by decide, by decide, rfl⟩ (zroom_of hrm) ⟨Nat.zero_le _, Nat.zero_le _⟩ hst d rfl kk
/- X13_map -/
set_option maxRecDepth 100000 in
theorem wkm_map_169 {Γ : ZG} {l : Launch} {D : va_G} {cr : List vw_C} {ds : Nat → ClassId} {ad : Nat → Nat} {post : ZS → Prop} (X : ZX Γ cX13_map RX13 5 99) (K : ZCap Γ l (ΘM D cr ds ad) 4 0 0) (hR : ZRetV Γ cX13_map 0 0 post) {C69 : Int × Int × ZS → Prop} (hC69 : ∀ (v2 : Int) (v3 : Int) (σ : ZS), C69 (v2, v3, σ) → Z Γ 0 0 σ [] 69 [(0, .ref (ad 0)), (2, .int (iz v2)), (3, .int (iz v3))] []) {C142 : Int × Int × ZS → Prop} (hC142 : ∀ (v2 : Int) (v3 : Int) (σ : ZS), C142 (v2, v3, σ) → Z Γ 0 0 σ [] 142 [(0, .ref (ad 0)), (2, .int (iz v2)), (3, .int (iz v3))] []) (v2 : Int) (v3 : Int) (σ : ZS) (h : wm_map_169 C69 C142 post v2 v3 σ) : Z Γ 0 0 σ [] 169 [(0, .ref (ad 0)), (2, .int (iz v2)), (3, .int (iz v3))] [] := by
  refine z_iincK X K 1 (lv' := [(2, .int (iz (v2 + 2))), (0, .ref (ad 0)), (3, .int (iz v3))]) dX13_map_169 rfl rfl rfl ?_
  refine z_iincK X K 2 (lv' := [(3, .int (iz (v3 + (-2)))), (2, .int (iz (v2 + 2))), (0, .ref (ad 0))]) dX13_map_172 rfl rfl rfl ?_
  refine z_iload_n X 1 dX13_map_175 rfl ?_
  refine z_aload_n X 2 dX13_map_176 rfl ?_
  refine gM_15 X K dX13_map_177 ?_
  obtain ⟨i1, h⟩ := h
  obtain ⟨i2, h⟩ := h
  refine z_icmp_ge X 187 dX13_map_180 rfl i1 i2 (fun c3 => ?_) (fun c3 => ?_)
  · have h := h.1 c3
    refine z_iincK X K 1 (lv' := [(2, .int (iz ((v2 + 2) + 3))), (3, .int (iz (v3 + (-2)))), (0, .ref (ad 0))]) dX13_map_187 rfl rfl rfl ?_
    refine z_iincK X K 1 (lv' := [(3, .int (iz ((v3 + (-2)) + 1))), (2, .int (iz ((v2 + 2) + 3))), (0, .ref (ad 0))]) dX13_map_190 rfl rfl rfl ?_
    refine z_goto (tgt := 69) X dX13_map_193 rfl ?_
    exact z_sub [2, 1, 0] rfl (hC69 _ _ _ h)
  · have h := h.2 c3
    refine z_iload_n X 0 dX13_map_183 rfl ?_
    obtain ⟨i4, h⟩ := h
    refine z_if_ge X 142 dX13_map_184 rfl i4 (fun c5 => ?_) (fun c5 => ?_)
    · have h := h.1 c5
      exact z_sub [2, 1, 0] rfl (hC142 _ _ _ h)
    · have h := h.2 c5
      refine z_iincK X K 1 (lv' := [(2, .int (iz ((v2 + 2) + 3))), (3, .int (iz (v3 + (-2)))), (0, .ref (ad 0))]) dX13_map_187 rfl rfl rfl ?_
      refine z_iincK X K 1 (lv' := [(3, .int (iz ((v3 + (-2)) + 1))), (2, .int (iz ((v2 + 2) + 3))), (0, .ref (ad 0))]) dX13_map_190 rfl rfl rfl ?_
      refine z_goto (tgt := 69) X dX13_map_193 rfl ?_
      exact z_sub [2, 1, 0] rfl (hC69 _ _ _ h)
set_option maxRecDepth 100000 in
theorem wkm_map_142 {Γ : ZG} {l : Launch} {D : va_G} {cr : List vw_C} {ds : Nat → ClassId} {ad : Nat → Nat} {post : ZS → Prop} (X : ZX Γ cX13_map RX13 5 99) (K : ZCap Γ l (ΘM D cr ds ad) 4 0 0) (hR : ZRetV Γ cX13_map 0 0 post) {C69 : Int × Int × ZS → Prop} (hC69 : ∀ (v2 : Int) (v3 : Int) (σ : ZS), C69 (v2, v3, σ) → Z Γ 0 0 σ [] 69 [(0, .ref (ad 0)), (2, .int (iz v2)), (3, .int (iz v3))] []) : ∀ (N : Nat) (v2 : Int) (v3 : Int) (σ : ZS), zfix (wbm_map_142 C69 post) N (v2, v3, σ) → Z Γ 0 0 σ [] 142 [(0, .ref (ad 0)), (2, .int (iz v2)), (3, .int (iz v3))] [] := by
  intro N
  induction N with
  | zero => intro v2 v3 σ h; exact False.elim h
  | succ N ih =>
    intro v2 v3 σ h
    have h : wbm_map_142 C69 post (zfix (wbm_map_142 C69 post) N) (v2, v3, σ) := h
    have hC142 := ih
    clear ih
    generalize zfix (wbm_map_142 C69 post) N = C142 at h hC142
    dsimp only [wbm_map_142] at h
    refine z_iload_n X 1 dX13_map_142 rfl ?_
    obtain ⟨i1, h⟩ := h
    refine z_if_lt X 169 dX13_map_143 rfl i1 (fun c2 => ?_) (fun c2 => ?_)
    · have h := h.1 c2
      exact z_sub [0, 1, 2] rfl (wkm_map_169 X K hR hC69 hC142 _ _ _ h)
    · have h := h.2 c2
      refine z_iload_n X 2 dX13_map_146 rfl ?_
      refine z_aload_n X 0 dX13_map_147 rfl ?_
      refine gM_16 X K dX13_map_148 ?_
      obtain ⟨i3, h⟩ := h
      obtain ⟨i4, h⟩ := h
      refine z_icmp_ge X 169 dX13_map_151 rfl i3 i4 (fun c5 => ?_) (fun c5 => ?_)
      · have h := h.1 c5
        exact z_sub [0, 1, 2] rfl (wkm_map_169 X K hR hC69 hC142 _ _ _ h)
      · have h := h.2 c5
        refine z_aload_n X 0 dX13_map_154 rfl ?_
        refine z_iload_n X 1 dX13_map_155 rfl ?_
        refine z_iload_n X 2 dX13_map_156 rfl ?_
        refine clm_isFree X K rfl h (Nat.le_of_ble_eq_true rfl) dX13_map_157 (fun r7 σ6 h => ?_)
        obtain ⟨b7, h⟩ := h
        have h := h b7
        refine z_if_eq X 169 dX13_map_160 rfl (InR_b b7) (fun c9 => ?_) (fun c9 => ?_)
        · have h := h.1 c9
          exact z_sub [0, 1, 2] rfl (wkm_map_169 X K hR hC69 hC142 _ _ _ h)
        · have h := h.2 c9
          refine z_aload_n X 0 dX13_map_163 rfl ?_
          refine z_iload_n X 1 dX13_map_164 rfl ?_
          refine z_iload_n X 2 dX13_map_165 rfl ?_
          refine clm_utah X K rfl h (Nat.le_of_ble_eq_true rfl) dX13_map_166 (fun σ10 h => ?_)
          exact z_sub [0, 1, 2] rfl (wkm_map_169 X K hR hC69 hC142 _ _ _ h)
set_option maxRecDepth 100000 in
theorem wkm_map_136 {Γ : ZG} {l : Launch} {D : va_G} {cr : List vw_C} {ds : Nat → ClassId} {ad : Nat → Nat} {post : ZS → Prop} (X : ZX Γ cX13_map RX13 5 99) (K : ZCap Γ l (ΘM D cr ds ad) 4 0 0) (hR : ZRetV Γ cX13_map 0 0 post) {C69 : Int × Int × ZS → Prop} (hC69 : ∀ (v2 : Int) (v3 : Int) (σ : ZS), C69 (v2, v3, σ) → Z Γ 0 0 σ [] 69 [(0, .ref (ad 0)), (2, .int (iz v2)), (3, .int (iz v3))] []) (v2 : Int) (v3 : Int) (σ : ZS) (h : wm_map_136 C69 post v2 v3 σ) : Z Γ 0 0 σ [] 136 [(0, .ref (ad 0)), (2, .int (iz v2)), (3, .int (iz v3))] [] := by
  refine z_iincK X K 1 (lv' := [(2, .int (iz (v2 + 1))), (0, .ref (ad 0)), (3, .int (iz v3))]) dX13_map_136 rfl rfl rfl ?_
  refine z_iincK X K 2 (lv' := [(3, .int (iz (v3 + 3))), (2, .int (iz (v2 + 1))), (0, .ref (ad 0))]) dX13_map_139 rfl rfl rfl ?_
  obtain ⟨N, h⟩ := h
  exact z_sub [2, 1, 0] rfl (wkm_map_142 X K hR hC69 N _ _ _ h)
set_option maxRecDepth 100000 in
theorem wkm_map_118 {Γ : ZG} {l : Launch} {D : va_G} {cr : List vw_C} {ds : Nat → ClassId} {ad : Nat → Nat} {post : ZS → Prop} (X : ZX Γ cX13_map RX13 5 99) (K : ZCap Γ l (ΘM D cr ds ad) 4 0 0) (hR : ZRetV Γ cX13_map 0 0 post) {C69 : Int × Int × ZS → Prop} (hC69 : ∀ (v2 : Int) (v3 : Int) (σ : ZS), C69 (v2, v3, σ) → Z Γ 0 0 σ [] 69 [(0, .ref (ad 0)), (2, .int (iz v2)), (3, .int (iz v3))] []) {C91 : Int × Int × ZS → Prop} (hC91 : ∀ (v2 : Int) (v3 : Int) (σ : ZS), C91 (v2, v3, σ) → Z Γ 0 0 σ [] 91 [(0, .ref (ad 0)), (2, .int (iz v2)), (3, .int (iz v3))] []) (v2 : Int) (v3 : Int) (σ : ZS) (h : wm_map_118 C69 C91 post v2 v3 σ) : Z Γ 0 0 σ [] 118 [(0, .ref (ad 0)), (2, .int (iz v2)), (3, .int (iz v3))] [] := by
  refine z_iincK X K 1 (lv' := [(2, .int (iz (v2 + (-2)))), (0, .ref (ad 0)), (3, .int (iz v3))]) dX13_map_118 rfl rfl rfl ?_
  refine z_iincK X K 2 (lv' := [(3, .int (iz (v3 + 2))), (2, .int (iz (v2 + (-2)))), (0, .ref (ad 0))]) dX13_map_121 rfl rfl rfl ?_
  refine z_iload_n X 1 dX13_map_124 rfl ?_
  obtain ⟨i1, h⟩ := h
  refine z_if_lt X 136 dX13_map_125 rfl i1 (fun c2 => ?_) (fun c2 => ?_)
  · have h := h.1 c2
    exact z_sub [2, 1, 0] rfl (wkm_map_136 X K hR hC69 _ _ _ h)
  · have h := h.2 c2
    refine z_iload_n X 0 dX13_map_128 rfl ?_
    refine z_aload_n X 2 dX13_map_129 rfl ?_
    refine gM_16 X K dX13_map_130 ?_
    obtain ⟨i3, h⟩ := h
    obtain ⟨i4, h⟩ := h
    refine z_icmp_lt X 91 dX13_map_133 rfl i3 i4 (fun c5 => ?_) (fun c5 => ?_)
    · have h := h.1 c5
      exact z_sub [2, 1, 0] rfl (hC91 _ _ _ h)
    · have h := h.2 c5
      exact z_sub [2, 1, 0] rfl (wkm_map_136 X K hR hC69 _ _ _ h)
set_option maxRecDepth 100000 in
theorem wkm_map_91 {Γ : ZG} {l : Launch} {D : va_G} {cr : List vw_C} {ds : Nat → ClassId} {ad : Nat → Nat} {post : ZS → Prop} (X : ZX Γ cX13_map RX13 5 99) (K : ZCap Γ l (ΘM D cr ds ad) 4 0 0) (hR : ZRetV Γ cX13_map 0 0 post) {C69 : Int × Int × ZS → Prop} (hC69 : ∀ (v2 : Int) (v3 : Int) (σ : ZS), C69 (v2, v3, σ) → Z Γ 0 0 σ [] 69 [(0, .ref (ad 0)), (2, .int (iz v2)), (3, .int (iz v3))] []) : ∀ (N : Nat) (v2 : Int) (v3 : Int) (σ : ZS), zfix (wbm_map_91 C69 post) N (v2, v3, σ) → Z Γ 0 0 σ [] 91 [(0, .ref (ad 0)), (2, .int (iz v2)), (3, .int (iz v3))] [] := by
  intro N
  induction N with
  | zero => intro v2 v3 σ h; exact False.elim h
  | succ N ih =>
    intro v2 v3 σ h
    have h : wbm_map_91 C69 post (zfix (wbm_map_91 C69 post) N) (v2, v3, σ) := h
    have hC91 := ih
    clear ih
    generalize zfix (wbm_map_91 C69 post) N = C91 at h hC91
    dsimp only [wbm_map_91] at h
    refine z_iload_n X 1 dX13_map_91 rfl ?_
    refine z_aload_n X 0 dX13_map_92 rfl ?_
    refine gM_15 X K dX13_map_93 ?_
    obtain ⟨i1, h⟩ := h
    obtain ⟨i2, h⟩ := h
    refine z_icmp_ge X 118 dX13_map_96 rfl i1 i2 (fun c3 => ?_) (fun c3 => ?_)
    · have h := h.1 c3
      exact z_sub [0, 1, 2] rfl (wkm_map_118 X K hR hC69 hC91 _ _ _ h)
    · have h := h.2 c3
      refine z_iload_n X 2 dX13_map_99 rfl ?_
      obtain ⟨i4, h⟩ := h
      refine z_if_lt X 118 dX13_map_100 rfl i4 (fun c5 => ?_) (fun c5 => ?_)
      · have h := h.1 c5
        exact z_sub [0, 1, 2] rfl (wkm_map_118 X K hR hC69 hC91 _ _ _ h)
      · have h := h.2 c5
        refine z_aload_n X 0 dX13_map_103 rfl ?_
        refine z_iload_n X 1 dX13_map_104 rfl ?_
        refine z_iload_n X 2 dX13_map_105 rfl ?_
        refine clm_isFree X K rfl h (Nat.le_of_ble_eq_true rfl) dX13_map_106 (fun r7 σ6 h => ?_)
        obtain ⟨b7, h⟩ := h
        have h := h b7
        refine z_if_eq X 118 dX13_map_109 rfl (InR_b b7) (fun c9 => ?_) (fun c9 => ?_)
        · have h := h.1 c9
          exact z_sub [0, 1, 2] rfl (wkm_map_118 X K hR hC69 hC91 _ _ _ h)
        · have h := h.2 c9
          refine z_aload_n X 0 dX13_map_112 rfl ?_
          refine z_iload_n X 1 dX13_map_113 rfl ?_
          refine z_iload_n X 2 dX13_map_114 rfl ?_
          refine clm_utah X K rfl h (Nat.le_of_ble_eq_true rfl) dX13_map_115 (fun σ10 h => ?_)
          exact z_sub [0, 1, 2] rfl (wkm_map_118 X K hR hC69 hC91 _ _ _ h)
set_option maxRecDepth 100000 in
theorem wkm_map_85 {Γ : ZG} {l : Launch} {D : va_G} {cr : List vw_C} {ds : Nat → ClassId} {ad : Nat → Nat} {post : ZS → Prop} (X : ZX Γ cX13_map RX13 5 99) (K : ZCap Γ l (ΘM D cr ds ad) 4 0 0) (hR : ZRetV Γ cX13_map 0 0 post) {C69 : Int × Int × ZS → Prop} (hC69 : ∀ (v2 : Int) (v3 : Int) (σ : ZS), C69 (v2, v3, σ) → Z Γ 0 0 σ [] 69 [(0, .ref (ad 0)), (2, .int (iz v2)), (3, .int (iz v3))] []) (v2 : Int) (v3 : Int) (σ : ZS) (h : wm_map_85 C69 post v2 v3 σ) : Z Γ 0 0 σ [] 85 [(0, .ref (ad 0)), (2, .int (iz v2)), (3, .int (iz v3))] [] := by
  refine z_aload_n X 0 dX13_map_85 rfl ?_
  refine z_iload_n X 1 dX13_map_86 rfl ?_
  refine z_iload_n X 2 dX13_map_87 rfl ?_
  refine clm_corners X K rfl h (Nat.le_of_ble_eq_true rfl) dX13_map_88 (fun σ1 h => ?_)
  obtain ⟨N, h⟩ := h
  exact z_sub [0, 1, 2] rfl (wkm_map_91 X K hR hC69 N _ _ _ h)
set_option maxRecDepth 100000 in
theorem wkm_map_69 {Γ : ZG} {l : Launch} {D : va_G} {cr : List vw_C} {ds : Nat → ClassId} {ad : Nat → Nat} {post : ZS → Prop} (X : ZX Γ cX13_map RX13 5 99) (K : ZCap Γ l (ΘM D cr ds ad) 4 0 0) (hR : ZRetV Γ cX13_map 0 0 post) : ∀ (N : Nat) (v2 : Int) (v3 : Int) (σ : ZS), zfix (wbm_map_69 post) N (v2, v3, σ) → Z Γ 0 0 σ [] 69 [(0, .ref (ad 0)), (2, .int (iz v2)), (3, .int (iz v3))] [] := by
  intro N
  induction N with
  | zero => intro v2 v3 σ h; exact False.elim h
  | succ N ih =>
    intro v2 v3 σ h
    have h : wbm_map_69 post (zfix (wbm_map_69 post) N) (v2, v3, σ) := h
    have hC69 := ih
    clear ih
    generalize zfix (wbm_map_69 post) N = C69 at h hC69
    dsimp only [wbm_map_69] at h
    refine z_iload_n X 1 dX13_map_69 rfl ?_
    refine z_aload_n X 0 dX13_map_70 rfl ?_
    refine gM_15 X K dX13_map_71 ?_
    obtain ⟨i1, h⟩ := h
    obtain ⟨i2, h⟩ := h
    refine z_icmp_lt X 85 dX13_map_74 rfl i1 i2 (fun c3 => ?_) (fun c3 => ?_)
    · have h := h.1 c3
      exact z_sub [0, 1, 2] rfl (wkm_map_85 X K hR hC69 _ _ _ h)
    · have h := h.2 c3
      refine z_iload_n X 2 dX13_map_77 rfl ?_
      refine z_aload_n X 0 dX13_map_78 rfl ?_
      refine gM_16 X K dX13_map_79 ?_
      obtain ⟨i4, h⟩ := h
      obtain ⟨i5, h⟩ := h
      refine z_icmp_ge X 196 dX13_map_82 rfl i4 i5 (fun c6 => ?_) (fun c6 => ?_)
      · have h := h.1 c6
        exact hR _ _ _ _ _ _ dX13_map_196 (Nat.le_refl 0) (Nat.le_refl 0) h
      · have h := h.2 c6
        exact z_sub [0, 1, 2] rfl (wkm_map_85 X K hR hC69 _ _ _ h)
set_option maxRecDepth 100000 in
theorem wkm_map_34 {Γ : ZG} {l : Launch} {D : va_G} {cr : List vw_C} {ds : Nat → ClassId} {ad : Nat → Nat} {post : ZS → Prop} (X : ZX Γ cX13_map RX13 5 99) (K : ZCap Γ l (ΘM D cr ds ad) 4 0 0) (hR : ZRetV Γ cX13_map 0 0 post) : ∀ (N : Nat) (v2 : Int) (σ : ZS), zfix (wbm_map_34 post) N (v2, σ) → Z Γ 0 0 σ [] 34 [(0, .ref (ad 0)), (2, .int (iz v2))] [] := by
  intro N
  induction N with
  | zero => intro v2 σ h; exact False.elim h
  | succ N ih =>
    intro v2 σ h
    have h : wbm_map_34 post (zfix (wbm_map_34 post) N) (v2, σ) := h
    have hC34 := ih
    clear ih
    generalize zfix (wbm_map_34 post) N = C34 at h hC34
    dsimp only [wbm_map_34] at h
    refine z_iload_n X 1 dX13_map_34 rfl ?_
    refine z_aload_n X 0 dX13_map_35 rfl ?_
    refine gM_15 X K dX13_map_36 ?_
    refine z_aload_n X 0 dX13_map_39 rfl ?_
    refine gM_16 X K dX13_map_40 ?_
    refine z_imul X dX13_map_43 ?_
    obtain ⟨i1, h⟩ := h
    obtain ⟨i2, h⟩ := h
    refine z_icmp_ge X 60 dX13_map_44 rfl i1 i2 (fun c3 => ?_) (fun c3 => ?_)
    · have h := h.1 c3
      refine z_aload_n X 0 dX13_map_60 rfl ?_
      refine z_iconst X 0 dX13_map_61 ?_
      refine pM_17 X K dX13_map_62 (fun σ4 eσ4 => ?_)
      have h := h σ4 eσ4
      refine z_iconst X 4 dX13_map_65 ?_
      refine z_istore_nK X K (lv' := [(2, .int (iz 4)), (0, .ref (ad 0))]) dX13_map_66 rfl rfl ?_
      refine z_iconst X 0 dX13_map_67 ?_
      refine z_istore_nK X K (lv' := [(3, .int (iz 0)), (2, .int (iz 4)), (0, .ref (ad 0))]) dX13_map_68 rfl rfl ?_
      obtain ⟨N, h⟩ := h
      exact z_sub [2, 1, 0] rfl (wkm_map_69 X K hR N _ _ _ h)
    · have h := h.2 c3
      refine z_aload_n X 0 dX13_map_47 rfl ?_
      refine gM_13 X K dX13_map_48 ?_
      refine z_iload_n X 1 dX13_map_51 rfl ?_
      refine z_iconst X 0 dX13_map_52 ?_
      obtain ⟨x5, h⟩ := h
      refine sM_10 X K dX13_map_53 x5 (fun σ6 eσ6 => ?_)
      have h := h σ6 eσ6
      refine z_iincK X K 1 (lv' := [(2, .int (iz (v2 + 1))), (0, .ref (ad 0))]) dX13_map_54 rfl rfl rfl ?_
      refine z_goto (tgt := 34) X dX13_map_57 rfl ?_
      exact z_sub [1, 0] rfl (hC34 _ _ h)
set_option maxRecDepth 100000 in
theorem mt_map (l : Launch) (D : va_G) (cr : List vw_C) (ds : Nat → ClassId) (ad : Nat → Nat) (a0 : Int) (σ : ZS) (post : ZS → Prop) (h : wm_map a0 σ post) : ZMetV l (ΘM D cr ds ad) yX13_map cX13_map 4 5 99 0 0 [.ref (ad 0), .int (iz a0)] σ post := by
  refine ZMetV.of (by decide) (Nat.le_of_ble_eq_true rfl) (fun Γ X K hR => ?_)
  have X : ZX Γ cX13_map RX13 5 99 := X
  refine z_sub [0, 1] (lv' := [(0, .ref (ad 0)), (1, .int (iz a0))]) rfl ?_
  refine z_aload_n X 0 dX13_map_0 rfl ?_
  refine gM_12 X K dX13_map_1 ?_
  refine z_iload_n X 1 dX13_map_4 rfl ?_
  obtain ⟨i1, h⟩ := h
  obtain ⟨i2, h⟩ := h
  refine z_icmp_ne X 9 dX13_map_5 rfl i1 i2 (fun c3 => ?_) (fun c3 => ?_)
  · have h := h.1 c3
    refine z_aload_n X 0 dX13_map_9 rfl ?_
    refine z_iload_n X 1 dX13_map_10 rfl ?_
    refine pM_12 X K dX13_map_11 (fun σ4 eσ4 => ?_)
    have h := h σ4 eσ4
    refine z_aload_n X 0 dX13_map_14 rfl ?_
    refine z_aload_n X 0 dX13_map_15 rfl ?_
    refine z_iload_n X 1 dX13_map_16 rfl ?_
    refine clm_planeRows X K rfl h (Nat.le_of_ble_eq_true rfl) dX13_map_17 (fun r6 σ5 h => ?_)
    refine pM_15 X K dX13_map_20 (fun σ7 eσ7 => ?_)
    have h := h σ7 eσ7
    refine z_aload_n X 0 dX13_map_23 rfl ?_
    refine z_aload_n X 0 dX13_map_24 rfl ?_
    refine z_iload_n X 1 dX13_map_25 rfl ?_
    refine clm_planeColumns X K rfl h (Nat.le_of_ble_eq_true rfl) dX13_map_26 (fun r9 σ8 h => ?_)
    refine pM_16 X K dX13_map_29 (fun σ10 eσ10 => ?_)
    have h := h σ10 eσ10
    refine z_iconst X 0 dX13_map_32 ?_
    refine z_istore_nK X K (lv' := [(2, .int (iz 0)), (0, .ref (ad 0)), (1, .int (iz a0))]) dX13_map_33 rfl rfl ?_
    obtain ⟨N, h⟩ := h
    exact z_sub [1, 0] rfl (wkm_map_34 X K hR N _ _ h)
  · have h := h.2 c3
    exact hR _ _ _ _ _ _ dX13_map_8 (Nat.le_refl 0) (Nat.le_refl 0) h
set_option maxRecDepth 100000 in
theorem clm_map {Γ : ZG} {cc : ByteArray} {fr lo nL pc : Nat} {lv : List (Nat × Value)} {st : List Value} {l : Launch} {D : va_G} {cr : List vw_C} {ds : Nat → ClassId} {ad : Nat → Nat} {a0 : Int} {σ : ZS} {post : ZS → Prop} (X : ZX Γ cc RX13 fr lo) (K : ZCap Γ l (ΘM D cr ds ad) nL 0 0) (hrm : zroom 6 122 fr lo = true) (h : wm_map a0 σ post) (hst : (st.map fun v => v.category).sum ≤ 8) (d : decode cc pc = .ok (.invokevirtual 188, 3)) (kk : ∀ (σ' : ZS), post σ' → Z Γ 0 0 σ' [] (pc + 3) lv (st)) : Z Γ 0 0 σ [] pc lv (.int (iz a0) :: .ref (ad 0) :: st) :=
  z_callVV' (C := RX13) (q0 := 0) X K (mt_map l D cr ds ad a0 σ post h) (Nat.le_of_ble_eq_true rfl) rfl rfl rfl (lw_V q1433 q1435 qs46 q127 q1436) ⟨rfl, by decide, by decide, rfl⟩ (zroom_of hrm) ⟨Nat.zero_le _, Nat.zero_le _⟩ hst d rfl kk
/- X13_read -/
set_option maxRecDepth 100000 in
theorem wkm_read_37 {Γ : ZG} {l : Launch} {D : va_G} {cr : List vw_C} {ds : Nat → ClassId} {ad : Nat → Nat} {post : Int → ZS → Prop} (X : ZX Γ cX13_read RX13 1 0) (K : ZCap Γ l (ΘM D cr ds ad) 4 0 0) (hR : ZRetI Γ cX13_read .int 0 0 post) {C4 : Int × Int × Int × ZS → Prop} (hC4 : ∀ (v1 : Int) (v2 : Int) (v3 : Int) (σ : ZS), C4 (v1, v2, v3, σ) → Z Γ 0 0 σ [] 4 [(0, .ref (ad 0)), (1, .int (iz v1)), (2, .int (iz v2)), (3, .int (iz v3))] []) (v1 : Int) (v3 : Int) (t0 : Int) (t1 : Int) (σ : ZS) (h : wm_read_37 C4 post v1 v3 t0 t1 σ) : Z Γ 0 0 σ [] 37 [(0, .ref (ad 0)), (1, .int (iz v1)), (3, .int (iz v3))] [.int (iz t0), .int (iz t1)] := by
  refine z_iadd X dX13_read_37 ?_
  refine z_topi (fun v2_1 ev2_1 => ?_)
  have h := h v2_1 ev2_1
  refine z_istore_nK X K (lv' := [(2, .int (iz v2_1)), (0, .ref (ad 0)), (1, .int (iz v1)), (3, .int (iz v3))]) dX13_read_38 rfl rfl ?_
  refine z_iincK X K 3 (lv' := [(3, .int (iz (v3 + 1))), (2, .int (iz v2_1)), (0, .ref (ad 0)), (1, .int (iz v1))]) dX13_read_39 rfl rfl rfl ?_
  refine z_goto (tgt := 4) X dX13_read_42 rfl ?_
  exact z_sub [2, 3, 1, 0] rfl (hC4 _ _ _ _ h)
set_option maxRecDepth 100000 in
theorem wkm_read_4 {Γ : ZG} {l : Launch} {D : va_G} {cr : List vw_C} {ds : Nat → ClassId} {ad : Nat → Nat} {post : Int → ZS → Prop} (X : ZX Γ cX13_read RX13 1 0) (K : ZCap Γ l (ΘM D cr ds ad) 4 0 0) (hR : ZRetI Γ cX13_read .int 0 0 post) : ∀ (N : Nat) (v1 : Int) (v2 : Int) (v3 : Int) (σ : ZS), zfix (wbm_read_4 post) N (v1, v2, v3, σ) → Z Γ 0 0 σ [] 4 [(0, .ref (ad 0)), (1, .int (iz v1)), (2, .int (iz v2)), (3, .int (iz v3))] [] := by
  intro N
  induction N with
  | zero => intro v1 v2 v3 σ h; exact False.elim h
  | succ N ih =>
    intro v1 v2 v3 σ h
    have h : wbm_read_4 post (zfix (wbm_read_4 post) N) (v1, v2, v3, σ) := h
    have hC4 := ih
    clear ih
    generalize zfix (wbm_read_4 post) N = C4 at h hC4
    dsimp only [wbm_read_4] at h
    refine z_iload_n X 3 dX13_read_4 rfl ?_
    refine z_bipush X 8 dX13_read_5 rfl ?_
    obtain ⟨i1, h⟩ := h
    refine z_icmp_ge X 45 dX13_read_7 rfl i1 (by decide) (fun c2 => ?_) (fun c2 => ?_)
    · have h := h.1 c2
      refine z_iload_n X 2 dX13_read_45 rfl ?_
      exact hR _ _ _ _ _ _ _ dX13_read_46 rfl (Nat.le_refl 0) (Nat.le_refl 0) h
    · have h := h.2 c2
      refine z_iconst X 2 dX13_read_10 ?_
      refine z_iload_n X 2 dX13_read_11 rfl ?_
      refine z_imul X dX13_read_12 ?_
      refine z_aload_n X 0 dX13_read_13 rfl ?_
      refine gM_19 X K dX13_read_14 ?_
      refine z_aload_n X 0 dX13_read_17 rfl ?_
      refine gM_14 X K dX13_read_18 ?_
      refine z_bipush X 8 dX13_read_21 rfl ?_
      refine z_iload_n X 1 dX13_read_23 rfl ?_
      refine z_imul X dX13_read_24 ?_
      refine z_iload_n X 3 dX13_read_25 rfl ?_
      refine z_iadd X dX13_read_26 ?_
      obtain ⟨x3, h⟩ := h
      refine aM_11 X K dX13_read_27 x3 ?_
      obtain ⟨x4, h⟩ := h
      refine aM_12 X K dX13_read_28 x4 ?_
      obtain ⟨i5, h⟩ := h
      refine z_if_eq X 36 dX13_read_29 rfl i5 (fun c6 => ?_) (fun c6 => ?_)
      · have h := h.1 c6
        refine z_iconst X 0 dX13_read_36 ?_
        exact z_sub [0, 1, 3] rfl (wkm_read_37 X K hR hC4 _ _ _ _ _ h)
      · have h := h.2 c6
        refine z_iconst X 1 dX13_read_32 ?_
        refine z_goto (tgt := 37) X dX13_read_33 rfl ?_
        exact z_sub [0, 1, 3] rfl (wkm_read_37 X K hR hC4 _ _ _ _ _ h)
set_option maxRecDepth 100000 in
theorem mt_read (l : Launch) (D : va_G) (cr : List vw_C) (ds : Nat → ClassId) (ad : Nat → Nat) (a0 : Int) (σ : ZS) (post : Int → ZS → Prop) (h : wm_read a0 σ post) : ZMetI l (ΘM D cr ds ad) yX13_read cX13_read 4 .int 1 0 0 0 [.ref (ad 0), .int (iz a0)] σ post := by
  refine ZMetI.of (by decide) (Nat.le_of_ble_eq_true rfl) (fun Γ X K hR => ?_)
  have X : ZX Γ cX13_read RX13 1 0 := X
  refine z_sub [0, 1] (lv' := [(0, .ref (ad 0)), (1, .int (iz a0))]) rfl ?_
  refine z_iconst X 0 dX13_read_0 ?_
  refine z_istore_nK X K (lv' := [(2, .int (iz 0)), (0, .ref (ad 0)), (1, .int (iz a0))]) dX13_read_1 rfl rfl ?_
  refine z_iconst X 0 dX13_read_2 ?_
  refine z_istore_nK X K (lv' := [(3, .int (iz 0)), (2, .int (iz 0)), (0, .ref (ad 0)), (1, .int (iz a0))]) dX13_read_3 rfl rfl ?_
  obtain ⟨N, h⟩ := h
  exact z_sub [2, 3, 1, 0] rfl (wkm_read_4 X K hR N _ _ _ _ h)
set_option maxRecDepth 100000 in
theorem clm_read {Γ : ZG} {cc : ByteArray} {fr lo nL pc : Nat} {lv : List (Nat × Value)} {st : List Value} {l : Launch} {D : va_G} {cr : List vw_C} {ds : Nat → ClassId} {ad : Nat → Nat} {a0 : Int} {σ : ZS} {post : Int → ZS → Prop} (X : ZX Γ cc RX13 fr lo) (K : ZCap Γ l (ΘM D cr ds ad) nL 0 0) (hrm : zroom 2 23 fr lo = true) (h : wm_read a0 σ post) (hst : (st.map fun v => v.category).sum ≤ 8) (d : decode cc pc = .ok (.invokevirtual 192, 3)) (kk : ∀ (r : Int) (σ' : ZS), post r σ' → Z Γ 0 0 σ' [] (pc + 3) lv (.int (iz r) :: st)) : Z Γ 0 0 σ [] pc lv (.int (iz a0) :: .ref (ad 0) :: st) :=
  z_callVI' (C := RX13) (q0 := 0) X K (mt_read l D cr ds ad a0 σ post h) (Nat.le_of_ble_eq_true rfl) rfl rfl rfl (lw_V q1471 q1473 qs54 q127 q1474) ⟨rfl, by decide, by decide, rfl⟩ (zroom_of hrm) ⟨Nat.zero_le _, Nat.zero_le _⟩ hst d rfl kk
/- X13_codeword -/
set_option maxRecDepth 100000 in
theorem mt_codeword (l : Launch) (D : va_G) (cr : List vw_C) (ds : Nat → ClassId) (ad : Nat → Nat) (a0 : Int) (σ : ZS) (post : Int → ZS → Prop) (h : wm_codeword a0 σ post) : ZMetI l (ΘM D cr ds ad) yX13_codeword cX13_codeword 2 .int 6 122 0 0 [.ref (ad 0), .int (iz a0)] σ post := by
  refine ZMetI.of (by decide) (Nat.le_of_ble_eq_true rfl) (fun Γ X K hR => ?_)
  have X : ZX Γ cX13_codeword RX13 6 122 := X
  refine z_sub [0, 1] (lv' := [(0, .ref (ad 0)), (1, .int (iz a0))]) rfl ?_
  refine z_aload_n X 0 dX13_codeword_0 rfl ?_
  refine z_iconst X 0 dX13_codeword_1 ?_
  refine pM_0 X K dX13_codeword_2 (fun σ1 eσ1 => ?_)
  have h := h σ1 eσ1
  refine z_aload_n X 0 dX13_codeword_5 rfl ?_
  refine z_iload_n X 1 dX13_codeword_6 rfl ?_
  refine clm_isCodeword X K rfl h (Nat.le_of_ble_eq_true rfl) dX13_codeword_7 (fun r3 σ2 h => ?_)
  obtain ⟨b3, h⟩ := h
  have h := h b3
  refine z_if_ne X 15 dX13_codeword_10 rfl (InR_b b3) (fun c5 => ?_) (fun c5 => ?_)
  · have h := h.1 c5
    refine z_aload_n X 0 dX13_codeword_15 rfl ?_
    refine z_aload_n X 0 dX13_codeword_16 rfl ?_
    refine gM_18 X K dX13_codeword_17 ?_
    refine clm_map X K rfl h (Nat.le_of_ble_eq_true rfl) dX13_codeword_20 (fun σ6 h => ?_)
    refine z_aload_n X 0 dX13_codeword_23 rfl ?_
    refine z_iload_n X 1 dX13_codeword_24 rfl ?_
    refine clm_read X K rfl h (Nat.le_of_ble_eq_true rfl) dX13_codeword_25 (fun r8 σ7 h => ?_)
    exact hR _ _ _ _ _ _ _ dX13_codeword_28 rfl (Nat.le_refl 0) (Nat.le_refl 0) h
  · have h := h.2 c5
    refine z_iconst X (-1) dX13_codeword_13 ?_
    exact hR _ _ _ _ _ _ _ dX13_codeword_14 rfl (Nat.le_refl 0) (Nat.le_refl 0) h
/- X13_write -/
set_option maxRecDepth 100000 in
theorem wkm_write_40 {Γ : ZG} {l : Launch} {D : va_G} {cr : List vw_C} {ds : Nat → ClassId} {ad : Nat → Nat} {post : ZS → Prop} (X : ZX Γ cX13_write RX13 1 0) (K : ZCap Γ l (ΘM D cr ds ad) 4 0 0) (hR : ZRetV Γ cX13_write 0 0 post) {C2 : Int × Int × Int × ZS → Prop} (hC2 : ∀ (v1 : Int) (v2 : Int) (v3 : Int) (σ : ZS), C2 (v1, v2, v3, σ) → Z Γ 0 0 σ [] 2 [(0, .ref (ad 0)), (1, .int (iz v1)), (2, .int (iz v2)), (3, .int (iz v3))] []) (v1 : Int) (v2 : Int) (v3 : Int) (t0 : Int) (t1 : Int) (σ : ZS) (h : wm_write_40 C2 post v1 v2 v3 t0 t1 σ) : Z Γ 0 0 σ [] 40 [(0, .ref (ad 0)), (1, .int (iz v1)), (2, .int (iz v2)), (3, .int (iz v3))] [.int (iz t0), .int (iz t1), .ref (ad 12)] := by
  obtain ⟨x1, h⟩ := h
  obtain ⟨b3, h⟩ := h
  refine sM_12 X K dX13_write_40 x1 b3 (fun σ2 eσ2 => ?_)
  have h := h σ2 eσ2
  refine z_iincK X K 3 (lv' := [(3, .int (iz (v3 + 1))), (0, .ref (ad 0)), (1, .int (iz v1)), (2, .int (iz v2))]) dX13_write_41 rfl rfl rfl ?_
  refine z_goto (tgt := 2) X dX13_write_44 rfl ?_
  exact z_sub [1, 2, 3, 0] rfl (hC2 _ _ _ _ h)
set_option maxRecDepth 100000 in
theorem wkm_write_2 {Γ : ZG} {l : Launch} {D : va_G} {cr : List vw_C} {ds : Nat → ClassId} {ad : Nat → Nat} {post : ZS → Prop} (X : ZX Γ cX13_write RX13 1 0) (K : ZCap Γ l (ΘM D cr ds ad) 4 0 0) (hR : ZRetV Γ cX13_write 0 0 post) : ∀ (N : Nat) (v1 : Int) (v2 : Int) (v3 : Int) (σ : ZS), zfix (wbm_write_2 post) N (v1, v2, v3, σ) → Z Γ 0 0 σ [] 2 [(0, .ref (ad 0)), (1, .int (iz v1)), (2, .int (iz v2)), (3, .int (iz v3))] [] := by
  intro N
  induction N with
  | zero => intro v1 v2 v3 σ h; exact False.elim h
  | succ N ih =>
    intro v1 v2 v3 σ h
    have h : wbm_write_2 post (zfix (wbm_write_2 post) N) (v1, v2, v3, σ) := h
    have hC2 := ih
    clear ih
    generalize zfix (wbm_write_2 post) N = C2 at h hC2
    dsimp only [wbm_write_2] at h
    refine z_iload_n X 3 dX13_write_2 rfl ?_
    refine z_bipush X 8 dX13_write_3 rfl ?_
    obtain ⟨i1, h⟩ := h
    refine z_icmp_ge X 47 dX13_write_5 rfl i1 (by decide) (fun c2 => ?_) (fun c2 => ?_)
    · have h := h.1 c2
      exact hR _ _ _ _ _ _ dX13_write_47 (Nat.le_refl 0) (Nat.le_refl 0) h
    · have h := h.2 c2
      refine z_aload_n X 0 dX13_write_8 rfl ?_
      refine gM_19 X K dX13_write_9 ?_
      refine z_aload_n X 0 dX13_write_12 rfl ?_
      refine gM_14 X K dX13_write_13 ?_
      refine z_bipush X 8 dX13_write_16 rfl ?_
      refine z_iload_n X 1 dX13_write_18 rfl ?_
      refine z_imul X dX13_write_19 ?_
      refine z_iload_n X 3 dX13_write_20 rfl ?_
      refine z_iadd X dX13_write_21 ?_
      obtain ⟨x3, h⟩ := h
      refine aM_11 X K dX13_write_22 x3 ?_
      refine z_iload_n X 2 dX13_write_23 rfl ?_
      refine z_bipush X 7 dX13_write_24 rfl ?_
      refine z_iload_n X 3 dX13_write_26 rfl ?_
      refine z_isub X dX13_write_27 ?_
      refine z_ishr X dX13_write_28 ?_
      refine z_iconst X 1 dX13_write_29 ?_
      refine z_iandm X 1 (M := 2) rfl rfl rfl dX13_write_30 ?_
      refine z_iconst X 1 dX13_write_31 ?_
      obtain ⟨i4, h⟩ := h
      refine z_icmp_ne X 39 dX13_write_32 rfl i4 (by decide) (fun c5 => ?_) (fun c5 => ?_)
      · have h := h.1 c5
        refine z_iconst X 0 dX13_write_39 ?_
        exact z_sub [0, 1, 2, 3] rfl (wkm_write_40 X K hR hC2 _ _ _ _ _ _ h)
      · have h := h.2 c5
        refine z_iconst X 1 dX13_write_35 ?_
        refine z_goto (tgt := 40) X dX13_write_36 rfl ?_
        exact z_sub [0, 1, 2, 3] rfl (wkm_write_40 X K hR hC2 _ _ _ _ _ _ h)
set_option maxRecDepth 100000 in
theorem mt_write (l : Launch) (D : va_G) (cr : List vw_C) (ds : Nat → ClassId) (ad : Nat → Nat) (a0 : Int) (a1 : Int) (σ : ZS) (post : ZS → Prop) (h : wm_write a0 a1 σ post) : ZMetV l (ΘM D cr ds ad) yX13_write cX13_write 4 1 0 0 0 [.ref (ad 0), .int (iz a0), .int (iz a1)] σ post := by
  refine ZMetV.of (by decide) (Nat.le_of_ble_eq_true rfl) (fun Γ X K hR => ?_)
  have X : ZX Γ cX13_write RX13 1 0 := X
  refine z_sub [0, 1, 2] (lv' := [(0, .ref (ad 0)), (1, .int (iz a0)), (2, .int (iz a1))]) rfl ?_
  refine z_iconst X 0 dX13_write_0 ?_
  refine z_istore_nK X K (lv' := [(3, .int (iz 0)), (0, .ref (ad 0)), (1, .int (iz a0)), (2, .int (iz a1))]) dX13_write_1 rfl rfl ?_
  obtain ⟨N, h⟩ := h
  exact z_sub [1, 2, 3, 0] rfl (wkm_write_2 X K hR N _ _ _ _ h)
set_option maxRecDepth 100000 in
theorem clm_write {Γ : ZG} {cc : ByteArray} {fr lo nL pc : Nat} {lv : List (Nat × Value)} {st : List Value} {l : Launch} {D : va_G} {cr : List vw_C} {ds : Nat → ClassId} {ad : Nat → Nat} {a0 : Int} {a1 : Int} {σ : ZS} {post : ZS → Prop} (X : ZX Γ cc RX13 fr lo) (K : ZCap Γ l (ΘM D cr ds ad) nL 0 0) (hrm : zroom 2 23 fr lo = true) (h : wm_write a0 a1 σ post) (hst : (st.map fun v => v.category).sum ≤ 8) (d : decode cc pc = .ok (.invokevirtual 195, 3)) (kk : ∀ (σ' : ZS), post σ' → Z Γ 0 0 σ' [] (pc + 3) lv (st)) : Z Γ 0 0 σ [] pc lv (.int (iz a1) :: .int (iz a0) :: .ref (ad 0) :: st) :=
  z_callVV' (C := RX13) (q0 := 0) X K (mt_write l D cr ds ad a0 a1 σ post h) (Nat.le_of_ble_eq_true rfl) rfl rfl rfl (lw_V q1479 q1481 qs55 q127 q1482) ⟨rfl, by decide, by decide, rfl⟩ (zroom_of hrm) ⟨Nat.zero_le _, Nat.zero_le _⟩ hst d rfl kk
/- X13_set -/
set_option maxRecDepth 100000 in
theorem mt_set (l : Launch) (D : va_G) (cr : List vw_C) (ds : Nat → ClassId) (ad : Nat → Nat) (a0 : Int) (a1 : Int) (σ : ZS) (post : Int → ZS → Prop) (h : wm_set a0 a1 σ post) : ZMetI l (ΘM D cr ds ad) yX13_set cX13_set 3 .boolean 6 122 0 0 [.ref (ad 0), .int (iz a0), .int (iz a1)] σ (fun r σ => (r = 0 ∨ r = 1) ∧ post r σ) := by
  refine ZMetI.of (by decide) (Nat.le_of_ble_eq_true rfl) (fun Γ X K hR => ?_)
  have X : ZX Γ cX13_set RX13 6 122 := X
  refine z_sub [0, 1, 2] (lv' := [(0, .ref (ad 0)), (1, .int (iz a0)), (2, .int (iz a1))]) rfl ?_
  refine z_aload_n X 0 dX13_set_0 rfl ?_
  refine z_iconst X 0 dX13_set_1 ?_
  refine pM_0 X K dX13_set_2 (fun σ1 eσ1 => ?_)
  have h := h σ1 eσ1
  refine z_aload_n X 0 dX13_set_5 rfl ?_
  refine z_iload_n X 1 dX13_set_6 rfl ?_
  refine clm_isCodeword X K rfl h (Nat.le_of_ble_eq_true rfl) dX13_set_7 (fun r3 σ2 h => ?_)
  obtain ⟨b3, h⟩ := h
  have h := h b3
  refine z_if_ne X 15 dX13_set_10 rfl (InR_b b3) (fun c5 => ?_) (fun c5 => ?_)
  · have h := h.1 c5
    refine z_aload_n X 0 dX13_set_15 rfl ?_
    refine z_aload_n X 0 dX13_set_16 rfl ?_
    refine gM_18 X K dX13_set_17 ?_
    refine clm_map X K rfl h (Nat.le_of_ble_eq_true rfl) dX13_set_20 (fun σ6 h => ?_)
    refine z_aload_n X 0 dX13_set_23 rfl ?_
    refine z_iload_n X 1 dX13_set_24 rfl ?_
    refine z_iload_n X 2 dX13_set_25 rfl ?_
    refine z_sipush X 255 dX13_set_26 rfl ?_
    refine z_iandm X 8 (M := 256) rfl rfl rfl dX13_set_29 ?_
    refine clm_write X K rfl h (Nat.le_of_ble_eq_true rfl) dX13_set_30 (fun σ7 h => ?_)
    refine z_iconst X 1 dX13_set_33 ?_
    exact hR _ _ _ _ _ _ _ dX13_set_34 (z_nb (Or.inr rfl)) (Nat.le_refl 0) (Nat.le_refl 0) ⟨(Or.inr rfl), h⟩
  · have h := h.2 c5
    refine z_iconst X 0 dX13_set_13 ?_
    exact hR _ _ _ _ _ _ _ dX13_set_14 (z_nb (Or.inl rfl)) (Nat.le_refl 0) (Nat.le_refl 0) ⟨(Or.inl rfl), h⟩
/- X13_takeTape -/
set_option maxRecDepth 100000 in
theorem mt_takeTape (l : Launch) (D : va_G) (cr : List vw_C) (ds : Nat → ClassId) (ad : Nat → Nat) (σ : ZS) (post : ZS → Prop) (h : wm_takeTape  σ post) : ZMetV l (ΘM D cr ds ad) yX13_takeTape cX13_takeTape 1 1 0 0 0 [.ref (ad 0)] σ post := by
  refine ZMetV.of (by decide) (Nat.le_of_ble_eq_true rfl) (fun Γ X K hR => ?_)
  have X : ZX Γ cX13_takeTape RX13 1 0 := X
  refine z_sub [0] (lv' := [(0, .ref (ad 0))]) rfl ?_
  refine z_aload_n X 0 dX13_takeTape_0 rfl ?_
  refine z_aload_n X 0 dX13_takeTape_1 rfl ?_
  refine gM_10 X K dX13_takeTape_2 ?_
  refine pM_11 X K dX13_takeTape_5 (fun σ1 eσ1 => ?_)
  have h := h σ1 eσ1
  refine z_aload_n X 0 dX13_takeTape_8 rfl ?_
  refine z_iconst X 0 dX13_takeTape_9 ?_
  refine pM_10 X K dX13_takeTape_10 (fun σ2 eσ2 => ?_)
  have h := h σ2 eσ2
  exact hR _ _ _ _ _ _ dX13_takeTape_13 (Nat.le_refl 0) (Nat.le_refl 0) h
set_option maxRecDepth 100000 in
theorem clm_takeTape {Γ : ZG} {cc : ByteArray} {fr lo nL pc : Nat} {lv : List (Nat × Value)} {st : List Value} {l : Launch} {D : va_G} {cr : List vw_C} {ds : Nat → ClassId} {ad : Nat → Nat} {σ : ZS} {post : ZS → Prop} (X : ZX Γ cc RX13 fr lo) (K : ZCap Γ l (ΘM D cr ds ad) nL 0 0) (hrm : zroom 2 20 fr lo = true) (h : wm_takeTape  σ post) (hst : (st.map fun v => v.category).sum ≤ 8) (d : decode cc pc = .ok (.invokevirtual 198, 3)) (kk : ∀ (σ' : ZS), post σ' → Z Γ 0 0 σ' [] (pc + 3) lv (st)) : Z Γ 0 0 σ [] pc lv (.ref (ad 0) :: st) :=
  z_callVV' (C := RX13) (q0 := 0) X K (mt_takeTape l D cr ds ad  σ post h) (Nat.le_of_ble_eq_true rfl) rfl rfl rfl (lw_V q1487 q1489 qs56 q127 q1490) ⟨rfl, by decide, by decide, rfl⟩ (zroom_of hrm) ⟨Nat.zero_le _, Nat.zero_le _⟩ hst d rfl kk
/- X13_load -/
set_option maxRecDepth 100000 in
theorem wkm_load_117 {Γ : ZG} {l : Launch} {D : va_G} {cr : List vw_C} {ds : Nat → ClassId} {ad : Nat → Nat} {post : Int → ZS → Prop} (X : ZX Γ cX13_load RX13 2 20) (K : ZCap Γ l (ΘM D cr ds ad) 5 0 0) (hR : ZRetI Γ cX13_load .boolean 0 0 (fun r σ => (r = 0 ∨ r = 1) ∧ post r σ)) {C53 : Int × Int × Int × ZS → Prop} (hC53 : ∀ (v1 : Int) (v2 : Int) (v3 : Int) (σ : ZS), C53 (v1, v2, v3, σ) → Z Γ 0 0 σ [] 53 [(0, .ref (ad 0)), (1, .int (iz v1)), (2, .int (iz v2)), (3, .int (iz v3))] []) {C66 : Int × Int × Int × Int × ZS → Prop} (hC66 : ∀ (v1 : Int) (v2 : Int) (v3 : Int) (v4 : Int) (σ : ZS), C66 (v1, v2, v3, v4, σ) → Z Γ 0 0 σ [] 66 [(0, .ref (ad 0)), (1, .int (iz v1)), (2, .int (iz v2)), (3, .int (iz v3)), (4, .int (iz v4))] []) (v1 : Int) (v2 : Int) (v3 : Int) (v4 : Int) (t0 : Int) (t1 : Int) (σ : ZS) (h : wm_load_117 C53 C66 post v1 v2 v3 v4 t0 t1 σ) : Z Γ 0 0 σ [] 117 [(0, .ref (ad 0)), (1, .int (iz v1)), (2, .int (iz v2)), (3, .int (iz v3)), (4, .int (iz v4))] [.int (iz t0), .int (iz t1), .ref (ad 12)] := by
  obtain ⟨x1, h⟩ := h
  obtain ⟨b3, h⟩ := h
  refine sM_12 X K dX13_load_117 x1 b3 (fun σ2 eσ2 => ?_)
  have h := h σ2 eσ2
  refine z_iincK X K 2 (lv' := [(2, .int (iz (v2 + 1))), (0, .ref (ad 0)), (1, .int (iz v1)), (3, .int (iz v3)), (4, .int (iz v4))]) dX13_load_118 rfl rfl rfl ?_
  refine z_iincK X K 4 (lv' := [(4, .int (iz (v4 + 1))), (2, .int (iz (v2 + 1))), (0, .ref (ad 0)), (1, .int (iz v1)), (3, .int (iz v3))]) dX13_load_121 rfl rfl rfl ?_
  refine z_goto (tgt := 66) X dX13_load_124 rfl ?_
  exact z_sub [2, 3, 1, 4, 0] rfl (hC66 _ _ _ _ _ h)
set_option maxRecDepth 100000 in
theorem wkm_load_66 {Γ : ZG} {l : Launch} {D : va_G} {cr : List vw_C} {ds : Nat → ClassId} {ad : Nat → Nat} {post : Int → ZS → Prop} (X : ZX Γ cX13_load RX13 2 20) (K : ZCap Γ l (ΘM D cr ds ad) 5 0 0) (hR : ZRetI Γ cX13_load .boolean 0 0 (fun r σ => (r = 0 ∨ r = 1) ∧ post r σ)) {C53 : Int × Int × Int × ZS → Prop} (hC53 : ∀ (v1 : Int) (v2 : Int) (v3 : Int) (σ : ZS), C53 (v1, v2, v3, σ) → Z Γ 0 0 σ [] 53 [(0, .ref (ad 0)), (1, .int (iz v1)), (2, .int (iz v2)), (3, .int (iz v3))] []) : ∀ (N : Nat) (v1 : Int) (v2 : Int) (v3 : Int) (v4 : Int) (σ : ZS), zfix (wbm_load_66 C53 post) N (v1, v2, v3, v4, σ) → Z Γ 0 0 σ [] 66 [(0, .ref (ad 0)), (1, .int (iz v1)), (2, .int (iz v2)), (3, .int (iz v3)), (4, .int (iz v4))] [] := by
  intro N
  induction N with
  | zero => intro v1 v2 v3 v4 σ h; exact False.elim h
  | succ N ih =>
    intro v1 v2 v3 v4 σ h
    have h : wbm_load_66 C53 post (zfix (wbm_load_66 C53 post) N) (v1, v2, v3, v4, σ) := h
    have hC66 := ih
    clear ih
    generalize zfix (wbm_load_66 C53 post) N = C66 at h hC66
    dsimp only [wbm_load_66] at h
    refine z_iload X 4 dX13_load_66 rfl ?_
    refine z_aload_n X 0 dX13_load_68 rfl ?_
    refine gM_2 X K dX13_load_69 ?_
    refine z_iload_n X 1 dX13_load_72 rfl ?_
    obtain ⟨x1, h⟩ := h
    refine aM_2 X K dX13_load_73 x1 ?_
    obtain ⟨i2, h⟩ := h
    obtain ⟨i3, h⟩ := h
    refine z_icmp_ge X 127 dX13_load_74 rfl i2 i3 (fun c4 => ?_) (fun c4 => ?_)
    · have h := h.1 c4
      refine z_iincK X K 3 (lv' := [(3, .int (iz (v3 + 1))), (0, .ref (ad 0)), (1, .int (iz v1)), (2, .int (iz v2)), (4, .int (iz v4))]) dX13_load_127 rfl rfl rfl ?_
      refine z_goto (tgt := 53) X dX13_load_130 rfl ?_
      exact z_sub [1, 2, 3, 0] rfl (hC53 _ _ _ _ h)
    · have h := h.2 c4
      refine z_aload_n X 0 dX13_load_77 rfl ?_
      refine gM_19 X K dX13_load_78 ?_
      refine z_sipush X 144 dX13_load_81 rfl ?_
      refine z_iload_n X 3 dX13_load_84 rfl ?_
      refine z_imul X dX13_load_85 ?_
      refine z_iload X 4 dX13_load_86 rfl ?_
      refine z_iadd X dX13_load_88 ?_
      refine z_aload_n X 0 dX13_load_89 rfl ?_
      refine gM_9 X K dX13_load_90 ?_
      refine z_iload_n X 2 dX13_load_93 rfl ?_
      refine z_bipush X 8 dX13_load_94 rfl ?_
      obtain ⟨i5, h⟩ := h
      obtain ⟨g6, h⟩ := h
      refine z_idiv X dX13_load_96 ⟨i5, (by decide), g6, (by decide)⟩ ?_
      obtain ⟨x7, h⟩ := h
      refine aM_9 X K dX13_load_97 x7 ?_
      refine z_bipush X 7 dX13_load_98 rfl ?_
      refine z_iload_n X 2 dX13_load_100 rfl ?_
      refine z_bipush X 8 dX13_load_101 rfl ?_
      refine z_irem X dX13_load_103 ⟨i5, (by decide), g6, (by decide)⟩ ?_
      refine z_isub X dX13_load_104 ?_
      refine z_ishr X dX13_load_105 ?_
      refine z_iconst X 1 dX13_load_106 ?_
      refine z_iandm X 1 (M := 2) rfl rfl rfl dX13_load_107 ?_
      refine z_iconst X 1 dX13_load_108 ?_
      obtain ⟨i8, h⟩ := h
      refine z_icmp_ne X 116 dX13_load_109 rfl i8 (by decide) (fun c9 => ?_) (fun c9 => ?_)
      · have h := h.1 c9
        refine z_iconst X 0 dX13_load_116 ?_
        exact z_sub [0, 1, 2, 3, 4] rfl (wkm_load_117 X K hR hC53 hC66 _ _ _ _ _ _ _ h)
      · have h := h.2 c9
        refine z_iconst X 1 dX13_load_112 ?_
        refine z_goto (tgt := 117) X dX13_load_113 rfl ?_
        exact z_sub [0, 1, 2, 3, 4] rfl (wkm_load_117 X K hR hC53 hC66 _ _ _ _ _ _ _ h)
set_option maxRecDepth 100000 in
theorem wkm_load_53 {Γ : ZG} {l : Launch} {D : va_G} {cr : List vw_C} {ds : Nat → ClassId} {ad : Nat → Nat} {post : Int → ZS → Prop} (X : ZX Γ cX13_load RX13 2 20) (K : ZCap Γ l (ΘM D cr ds ad) 5 0 0) (hR : ZRetI Γ cX13_load .boolean 0 0 (fun r σ => (r = 0 ∨ r = 1) ∧ post r σ)) : ∀ (N : Nat) (v1 : Int) (v2 : Int) (v3 : Int) (σ : ZS), zfix (wbm_load_53 post) N (v1, v2, v3, σ) → Z Γ 0 0 σ [] 53 [(0, .ref (ad 0)), (1, .int (iz v1)), (2, .int (iz v2)), (3, .int (iz v3))] [] := by
  intro N
  induction N with
  | zero => intro v1 v2 v3 σ h; exact False.elim h
  | succ N ih =>
    intro v1 v2 v3 σ h
    have h : wbm_load_53 post (zfix (wbm_load_53 post) N) (v1, v2, v3, σ) := h
    have hC53 := ih
    clear ih
    generalize zfix (wbm_load_53 post) N = C53 at h hC53
    dsimp only [wbm_load_53] at h
    refine z_iload_n X 3 dX13_load_53 rfl ?_
    refine z_aload_n X 0 dX13_load_54 rfl ?_
    refine gM_1 X K dX13_load_55 ?_
    refine z_iload_n X 1 dX13_load_58 rfl ?_
    obtain ⟨x1, h⟩ := h
    refine aM_1 X K dX13_load_59 x1 ?_
    obtain ⟨i2, h⟩ := h
    obtain ⟨i3, h⟩ := h
    refine z_icmp_ge X 133 dX13_load_60 rfl i2 i3 (fun c4 => ?_) (fun c4 => ?_)
    · have h := h.1 c4
      refine z_iconst X 1 dX13_load_133 ?_
      exact hR _ _ _ _ _ _ _ dX13_load_134 (z_nb (Or.inr rfl)) (Nat.le_refl 0) (Nat.le_refl 0) ⟨(Or.inr rfl), h⟩
    · have h := h.2 c4
      refine z_iconst X 0 dX13_load_63 ?_
      refine z_istoreK X K (lv' := [(4, .int (iz 0)), (0, .ref (ad 0)), (1, .int (iz v1)), (2, .int (iz v2)), (3, .int (iz v3))]) dX13_load_64 rfl rfl ?_
      obtain ⟨N, h⟩ := h
      exact z_sub [1, 2, 3, 4, 0] rfl (wkm_load_66 X K hR hC53 N _ _ _ _ _ h)
set_option maxRecDepth 100000 in
theorem mt_load (l : Launch) (D : va_G) (cr : List vw_C) (ds : Nat → ClassId) (ad : Nat → Nat) (a0 : Int) (σ : ZS) (post : Int → ZS → Prop) (h : wm_load a0 σ post) : ZMetI l (ΘM D cr ds ad) yX13_load cX13_load 5 .boolean 2 20 0 0 [.ref (ad 0), .int (iz a0)] σ (fun r σ => (r = 0 ∨ r = 1) ∧ post r σ) := by
  refine ZMetI.of (by decide) (Nat.le_of_ble_eq_true rfl) (fun Γ X K hR => ?_)
  have X : ZX Γ cX13_load RX13 2 20 := X
  refine z_sub [0, 1] (lv' := [(0, .ref (ad 0)), (1, .int (iz a0))]) rfl ?_
  refine z_aload_n X 0 dX13_load_0 rfl ?_
  refine z_iconst X 0 dX13_load_1 ?_
  refine pM_0 X K dX13_load_2 (fun σ1 eσ1 => ?_)
  have h := h σ1 eσ1
  refine z_aload_n X 0 dX13_load_5 rfl ?_
  refine clm_takeTape X K rfl h (Nat.le_of_ble_eq_true rfl) dX13_load_6 (fun σ2 h => ?_)
  refine z_iload_n X 1 dX13_load_9 rfl ?_
  refine clm_isSymbol X K rfl h (Nat.le_of_ble_eq_true rfl) dX13_load_10 (fun r4 σ3 h => ?_)
  obtain ⟨b4, h⟩ := h
  have h := h b4
  refine z_if_eq X 42 dX13_load_13 rfl (InR_b b4) (fun c6 => ?_) (fun c6 => ?_)
  · have h := h.1 c6
    refine z_iconst X 0 dX13_load_42 ?_
    exact hR _ _ _ _ _ _ _ dX13_load_43 (z_nb (Or.inl rfl)) (Nat.le_refl 0) (Nat.le_refl 0) ⟨(Or.inl rfl), h⟩
  · have h := h.2 c6
    refine z_aload_n X 0 dX13_load_16 rfl ?_
    refine gM_11 X K dX13_load_17 ?_
    refine z_aload_n X 0 dX13_load_20 rfl ?_
    refine gM_1 X K dX13_load_21 ?_
    refine z_iload_n X 1 dX13_load_24 rfl ?_
    obtain ⟨x7, h⟩ := h
    refine aM_1 X K dX13_load_25 x7 ?_
    refine z_aload_n X 0 dX13_load_26 rfl ?_
    refine gM_2 X K dX13_load_27 ?_
    refine z_iload_n X 1 dX13_load_30 rfl ?_
    refine aM_2 X K dX13_load_31 x7 ?_
    refine z_imul X dX13_load_32 ?_
    refine z_bipush X 7 dX13_load_33 rfl ?_
    refine z_iadd X dX13_load_35 ?_
    refine z_bipush X 8 dX13_load_36 rfl ?_
    obtain ⟨i8, h⟩ := h
    obtain ⟨g9, h⟩ := h
    refine z_idiv X dX13_load_38 ⟨i8, (by decide), g9, (by decide)⟩ ?_
    obtain ⟨i10, h⟩ := h
    obtain ⟨i11, h⟩ := h
    refine z_icmp_eq X 44 dX13_load_39 rfl i10 i11 (fun c12 => ?_) (fun c12 => ?_)
    · have h := h.1 c12
      refine z_aload_n X 0 dX13_load_44 rfl ?_
      refine z_iload_n X 1 dX13_load_45 rfl ?_
      refine pM_18 X K dX13_load_46 (fun σ13 eσ13 => ?_)
      have h := h σ13 eσ13
      refine z_iconst X 0 dX13_load_49 ?_
      refine z_istore_nK X K (lv' := [(2, .int (iz 0)), (0, .ref (ad 0)), (1, .int (iz a0))]) dX13_load_50 rfl rfl ?_
      refine z_iconst X 0 dX13_load_51 ?_
      refine z_istore_nK X K (lv' := [(3, .int (iz 0)), (2, .int (iz 0)), (0, .ref (ad 0)), (1, .int (iz a0))]) dX13_load_52 rfl rfl ?_
      obtain ⟨N, h⟩ := h
      exact z_sub [2, 3, 1, 0] rfl (wkm_load_53 X K hR N _ _ _ _ h)
    · have h := h.2 c12
      refine z_iconst X 0 dX13_load_42 ?_
      exact hR _ _ _ _ _ _ _ dX13_load_43 (z_nb (Or.inl rfl)) (Nat.le_refl 0) (Nat.le_refl 0) ⟨(Or.inl rfl), h⟩
/- X13_keepRead -/
set_option maxRecDepth 100000 in
theorem wkm_keepRead_10 {Γ : ZG} {l : Launch} {D : va_G} {cr : List vw_C} {ds : Nat → ClassId} {ad : Nat → Nat} {post : ZS → Prop} (X : ZX Γ cX13_keepRead RX13 1 0) (K : ZCap Γ l (ΘM D cr ds ad) 2 0 0) (hR : ZRetV Γ cX13_keepRead 0 0 post) : ∀ (N : Nat) (v1 : Int) (σ : ZS), zfix (wbm_keepRead_10 post) N (v1, σ) → Z Γ 0 0 σ [] 10 [(0, .ref (ad 0)), (1, .int (iz v1))] [] := by
  intro N
  induction N with
  | zero => intro v1 σ h; exact False.elim h
  | succ N ih =>
    intro v1 σ h
    have h : wbm_keepRead_10 post (zfix (wbm_keepRead_10 post) N) (v1, σ) := h
    have hC10 := ih
    clear ih
    generalize zfix (wbm_keepRead_10 post) N = C10 at h hC10
    dsimp only [wbm_keepRead_10] at h
    refine z_iload_n X 1 dX13_keepRead_10 rfl ?_
    refine z_aload_n X 0 dX13_keepRead_11 rfl ?_
    refine gM_31 X K dX13_keepRead_12 ?_
    obtain ⟨i1, h⟩ := h
    obtain ⟨i2, h⟩ := h
    refine z_icmp_ge X 36 dX13_keepRead_15 rfl i1 i2 (fun c3 => ?_) (fun c3 => ?_)
    · have h := h.1 c3
      exact hR _ _ _ _ _ _ dX13_keepRead_36 (Nat.le_refl 0) (Nat.le_refl 0) h
    · have h := h.2 c3
      refine z_aload_n X 0 dX13_keepRead_18 rfl ?_
      refine gM_32 X K dX13_keepRead_19 ?_
      refine z_iload_n X 1 dX13_keepRead_22 rfl ?_
      refine z_aload_n X 0 dX13_keepRead_23 rfl ?_
      refine gM_30 X K dX13_keepRead_24 ?_
      refine z_iload_n X 1 dX13_keepRead_27 rfl ?_
      obtain ⟨x4, h⟩ := h
      refine aM_21 X K dX13_keepRead_28 x4 ?_
      refine sM_22 X K dX13_keepRead_29 x4 (fun σ5 eσ5 => ?_)
      have h := h σ5 eσ5
      refine z_iincK X K 1 (lv' := [(1, .int (iz (v1 + 1))), (0, .ref (ad 0))]) dX13_keepRead_30 rfl rfl rfl ?_
      refine z_goto (tgt := 10) X dX13_keepRead_33 rfl ?_
      exact z_sub [1, 0] rfl (hC10 _ _ h)
set_option maxRecDepth 100000 in
theorem mt_keepRead (l : Launch) (D : va_G) (cr : List vw_C) (ds : Nat → ClassId) (ad : Nat → Nat) (σ : ZS) (post : ZS → Prop) (h : wm_keepRead  σ post) : ZMetV l (ΘM D cr ds ad) yX13_keepRead cX13_keepRead 2 1 0 0 0 [.ref (ad 0)] σ post := by
  refine ZMetV.of (by decide) (Nat.le_of_ble_eq_true rfl) (fun Γ X K hR => ?_)
  have X : ZX Γ cX13_keepRead RX13 1 0 := X
  refine z_sub [0] (lv' := [(0, .ref (ad 0))]) rfl ?_
  refine z_aload_n X 0 dX13_keepRead_0 rfl ?_
  refine z_aload_n X 0 dX13_keepRead_1 rfl ?_
  refine gM_31 X K dX13_keepRead_2 ?_
  refine pM_33 X K dX13_keepRead_5 (fun σ1 eσ1 => ?_)
  have h := h σ1 eσ1
  refine z_iconst X 0 dX13_keepRead_8 ?_
  refine z_istore_nK X K (lv' := [(1, .int (iz 0)), (0, .ref (ad 0))]) dX13_keepRead_9 rfl rfl ?_
  obtain ⟨N, h⟩ := h
  exact z_sub [1, 0] rfl (wkm_keepRead_10 X K hR N _ _ h)
set_option maxRecDepth 100000 in
theorem clm_keepRead {Γ : ZG} {cc : ByteArray} {fr lo nL pc : Nat} {lv : List (Nat × Value)} {st : List Value} {l : Launch} {D : va_G} {cr : List vw_C} {ds : Nat → ClassId} {ad : Nat → Nat} {σ : ZS} {post : ZS → Prop} (X : ZX Γ cc RX13 fr lo) (K : ZCap Γ l (ΘM D cr ds ad) nL 0 0) (hrm : zroom 2 21 fr lo = true) (h : wm_keepRead  σ post) (hst : (st.map fun v => v.category).sum ≤ 8) (d : decode cc pc = .ok (.invokevirtual 288, 3)) (kk : ∀ (σ' : ZS), post σ' → Z Γ 0 0 σ' [] (pc + 3) lv (st)) : Z Γ 0 0 σ [] pc lv (.ref (ad 0) :: st) :=
  z_callVV' (C := RX13) (q0 := 0) X K (mt_keepRead l D cr ds ad  σ post h) (Nat.le_of_ble_eq_true rfl) rfl rfl rfl (lw_V q1535 q1537 qs66 q127 q1538) ⟨rfl, by decide, by decide, rfl⟩ (zroom_of hrm) ⟨Nat.zero_le _, Nat.zero_le _⟩ hst d rfl kk
/- X13_tell -/
set_option maxRecDepth 100000 in
theorem mt_tell (l : Launch) (D : va_G) (cr : List vw_C) (ds : Nat → ClassId) (ad : Nat → Nat) (a0 : Int) (σ : ZS) (post : ZS → Prop) (h : wm_tell a0 σ post) : ZMetV l (ΘM D cr ds ad) yX13_tell cX13_tell 2 1 0 0 0 [.ref (ad 0), .int (iz a0)] σ post := by
  refine ZMetV.of (by decide) (Nat.le_of_ble_eq_true rfl) (fun Γ X K hR => ?_)
  have X : ZX Γ cX13_tell RX13 1 0 := X
  refine z_sub [0, 1] (lv' := [(0, .ref (ad 0)), (1, .int (iz a0))]) rfl ?_
  refine z_aload_n X 0 dX13_tell_0 rfl ?_
  refine gM_30 X K dX13_tell_1 ?_
  refine z_aload_n X 0 dX13_tell_4 rfl ?_
  refine gM_31 X K dX13_tell_5 ?_
  refine z_iload_n X 1 dX13_tell_8 rfl ?_
  obtain ⟨x1, h⟩ := h
  refine sM_21 X K dX13_tell_9 x1 (fun σ2 eσ2 => ?_)
  have h := h σ2 eσ2
  refine z_aload_n X 0 dX13_tell_10 rfl ?_
  refine z_dup X dX13_tell_11 rfl ?_
  refine gM_31 X K dX13_tell_12 ?_
  refine z_iconst X 1 dX13_tell_15 ?_
  refine z_iadd X dX13_tell_16 ?_
  refine pM_31 X K dX13_tell_17 (fun σ3 eσ3 => ?_)
  have h := h σ3 eσ3
  exact hR _ _ _ _ _ _ dX13_tell_20 (Nat.le_refl 0) (Nat.le_refl 0) h
set_option maxRecDepth 100000 in
theorem clm_tell {Γ : ZG} {cc : ByteArray} {fr lo nL pc : Nat} {lv : List (Nat × Value)} {st : List Value} {l : Launch} {D : va_G} {cr : List vw_C} {ds : Nat → ClassId} {ad : Nat → Nat} {a0 : Int} {σ : ZS} {post : ZS → Prop} (X : ZX Γ cc RX13 fr lo) (K : ZCap Γ l (ΘM D cr ds ad) nL 0 0) (hrm : zroom 2 21 fr lo = true) (h : wm_tell a0 σ post) (hst : (st.map fun v => v.category).sum ≤ 8) (d : decode cc pc = .ok (.invokevirtual 247, 3)) (kk : ∀ (σ' : ZS), post σ' → Z Γ 0 0 σ' [] (pc + 3) lv (st)) : Z Γ 0 0 σ [] pc lv (.int (iz a0) :: .ref (ad 0) :: st) :=
  z_callVV' (C := RX13) (q0 := 0) X K (mt_tell l D cr ds ad a0 σ post h) (Nat.le_of_ble_eq_true rfl) rfl rfl rfl (lw_V q1503 q1505 qs59 q127 q1506) ⟨rfl, by decide, by decide, rfl⟩ (zroom_of hrm) ⟨Nat.zero_le _, Nat.zero_le _⟩ hst d rfl kk
/- X13_unmixed -/
set_option maxRecDepth 100000 in
theorem mt_unmixed (l : Launch) (D : va_G) (cr : List vw_C) (ds : Nat → ClassId) (ad : Nat → Nat) (σ : ZS) (post : Int → ZS → Prop) (h : wm_unmixed  σ post) : ZMetI l (ΘM D cr ds ad) yX13_unmixed cX13_unmixed 2 .int 1 0 0 0 [.ref (ad 0)] σ post := by
  refine ZMetI.of (by decide) (Nat.le_of_ble_eq_true rfl) (fun Γ X K hR => ?_)
  have X : ZX Γ cX13_unmixed RX13 1 0 := X
  refine z_sub [0] (lv' := [(0, .ref (ad 0))]) rfl ?_
  refine z_aload_n X 0 dX13_unmixed_0 rfl ?_
  refine gM_20 X K dX13_unmixed_1 ?_
  refine z_aload_n X 0 dX13_unmixed_4 rfl ?_
  refine gM_34 X K dX13_unmixed_5 ?_
  obtain ⟨x1, h⟩ := h
  refine aM_13 X K dX13_unmixed_8 x1 ?_
  refine z_iconst X 1 dX13_unmixed_9 ?_
  refine z_isub X dX13_unmixed_10 ?_
  refine z_sipush X 149 dX13_unmixed_11 rfl ?_
  refine z_aload_n X 0 dX13_unmixed_14 rfl ?_
  refine gM_34 X K dX13_unmixed_15 ?_
  refine z_iconst X 1 dX13_unmixed_18 ?_
  refine z_iadd X dX13_unmixed_19 ?_
  refine z_imul X dX13_unmixed_20 ?_
  refine z_sipush X 255 dX13_unmixed_21 rfl ?_
  obtain ⟨i2, h⟩ := h
  obtain ⟨g3, h⟩ := h
  refine z_irem X dX13_unmixed_24 ⟨i2, (by decide), g3, (by decide)⟩ ?_
  refine z_isub X dX13_unmixed_25 ?_
  refine z_sipush X 255 dX13_unmixed_26 rfl ?_
  refine z_iandm X 8 (M := 256) rfl rfl rfl dX13_unmixed_29 ?_
  refine z_topi (fun v1_4 ev1_4 => ?_)
  have h := h v1_4 ev1_4
  refine z_istore_nK X K (lv' := [(1, .int (iz v1_4)), (0, .ref (ad 0))]) dX13_unmixed_30 rfl rfl ?_
  refine z_aload_n X 1 dX13_unmixed_31 rfl ?_
  refine z_dup X dX13_unmixed_32 rfl ?_
  refine gM_34 X K dX13_unmixed_33 ?_
  refine z_iconst X 1 dX13_unmixed_36 ?_
  refine z_iadd X dX13_unmixed_37 ?_
  refine pM_34 X K dX13_unmixed_38 (fun σ5 eσ5 => ?_)
  have h := h σ5 eσ5
  refine z_iload_n X 0 dX13_unmixed_41 rfl ?_
  exact hR _ _ _ _ _ _ _ dX13_unmixed_42 rfl (Nat.le_refl 0) (Nat.le_refl 0) h
set_option maxRecDepth 100000 in
theorem clm_unmixed {Γ : ZG} {cc : ByteArray} {fr lo nL pc : Nat} {lv : List (Nat × Value)} {st : List Value} {l : Launch} {D : va_G} {cr : List vw_C} {ds : Nat → ClassId} {ad : Nat → Nat} {σ : ZS} {post : Int → ZS → Prop} (X : ZX Γ cc RX13 fr lo) (K : ZCap Γ l (ΘM D cr ds ad) nL 0 0) (hrm : zroom 2 21 fr lo = true) (h : wm_unmixed  σ post) (hst : (st.map fun v => v.category).sum ≤ 8) (d : decode cc pc = .ok (.invokevirtual 278, 3)) (kk : ∀ (r : Int) (σ' : ZS), post r σ' → Z Γ 0 0 σ' [] (pc + 3) lv (.int (iz r) :: st)) : Z Γ 0 0 σ [] pc lv (.ref (ad 0) :: st) :=
  z_callVI' (C := RX13) (q0 := 0) X K (mt_unmixed l D cr ds ad  σ post h) (Nat.le_of_ble_eq_true rfl) rfl rfl rfl (lw_V q1531 q1533 qs65 q127 q1534) ⟨rfl, by decide, by decide, rfl⟩ (zroom_of hrm) ⟨Nat.zero_le _, Nat.zero_le _⟩ hst d rfl kk
/- X13_base -/
set_option maxRecDepth 100000 in
theorem wkm_base_125 {Γ : ZG} {l : Launch} {D : va_G} {cr : List vw_C} {ds : Nat → ClassId} {ad : Nat → Nat} {post : ZS → Prop} (X : ZX Γ cX13_base RX13 2 21) (K : ZCap Γ l (ΘM D cr ds ad) 4 0 0) (hR : ZRetV Γ cX13_base 0 0 post) : ∀ (N : Nat) (v2 : Int) (v3 : Int) (σ : ZS), zfix (wbm_base_125 post) N (v2, v3, σ) → Z Γ 0 0 σ [] 125 [(0, .ref (ad 0)), (2, .int (iz v2)), (3, .int (iz v3))] [] := by
  intro N
  induction N with
  | zero => intro v2 v3 σ h; exact False.elim h
  | succ N ih =>
    intro v2 v3 σ h
    have h : wbm_base_125 post (zfix (wbm_base_125 post) N) (v2, v3, σ) := h
    have hC125 := ih
    clear ih
    generalize zfix (wbm_base_125 post) N = C125 at h hC125
    dsimp only [wbm_base_125] at h
    refine z_iload_n X 2 dX13_base_125 rfl ?_
    refine z_iload_n X 1 dX13_base_126 rfl ?_
    obtain ⟨i1, h⟩ := h
    obtain ⟨i2, h⟩ := h
    refine z_icmp_ge X 151 dX13_base_127 rfl i1 i2 (fun c3 => ?_) (fun c3 => ?_)
    · have h := h.1 c3
      exact hR _ _ _ _ _ _ dX13_base_151 (Nat.le_refl 0) (Nat.le_refl 0) h
    · have h := h.2 c3
      refine z_aload_n X 0 dX13_base_130 rfl ?_
      refine gM_36 X K dX13_base_131 ?_
      obtain ⟨i4, h⟩ := h
      refine z_if_eq X 151 dX13_base_134 rfl i4 (fun c5 => ?_) (fun c5 => ?_)
      · have h := h.1 c5
        exact hR _ _ _ _ _ _ dX13_base_151 (Nat.le_refl 0) (Nat.le_refl 0) h
      · have h := h.2 c5
        refine z_aload_n X 0 dX13_base_137 rfl ?_
        refine z_aload_n X 0 dX13_base_138 rfl ?_
        refine clm_unmixed X K rfl h (Nat.le_of_ble_eq_true rfl) dX13_base_139 (fun r7 σ6 h => ?_)
        refine clm_tell X K rfl h (Nat.le_of_ble_eq_true rfl) dX13_base_142 (fun σ8 h => ?_)
        refine z_iincK X K 2 (lv' := [(3, .int (iz (v3 + 1))), (0, .ref (ad 0)), (2, .int (iz v2))]) dX13_base_145 rfl rfl rfl ?_
        refine z_goto (tgt := 125) X dX13_base_148 rfl ?_
        exact z_sub [1, 2, 0] rfl (hC125 _ _ _ h)
set_option maxRecDepth 100000 in
theorem wkm_base_120 {Γ : ZG} {l : Launch} {D : va_G} {cr : List vw_C} {ds : Nat → ClassId} {ad : Nat → Nat} {post : ZS → Prop} (X : ZX Γ cX13_base RX13 2 21) (K : ZCap Γ l (ΘM D cr ds ad) 4 0 0) (hR : ZRetV Γ cX13_base 0 0 post) (v2 : Int) (t0 : Int) (σ : ZS) (h : wm_base_120 post v2 t0 σ) : Z Γ 0 0 σ [] 120 [(0, .ref (ad 0)), (2, .int (iz v2))] [.int (iz t0), .ref (ad 0)] := by
  obtain ⟨b2, h⟩ := h
  refine pM_36 X K b2 dX13_base_120 (fun σ1 eσ1 => ?_)
  have h := h σ1 eσ1
  refine z_iconst X 0 dX13_base_123 ?_
  refine z_istore_nK X K (lv' := [(3, .int (iz 0)), (0, .ref (ad 0)), (2, .int (iz v2))]) dX13_base_124 rfl rfl ?_
  obtain ⟨N, h⟩ := h
  exact z_sub [1, 2, 0] rfl (wkm_base_125 X K hR N _ _ _ h)
set_option maxRecDepth 100000 in
theorem wkm_base_119 {Γ : ZG} {l : Launch} {D : va_G} {cr : List vw_C} {ds : Nat → ClassId} {ad : Nat → Nat} {post : ZS → Prop} (X : ZX Γ cX13_base RX13 2 21) (K : ZCap Γ l (ΘM D cr ds ad) 4 0 0) (hR : ZRetV Γ cX13_base 0 0 post) (v2 : Int) (σ : ZS) (h : wm_base_119 post v2 σ) : Z Γ 0 0 σ [] 119 [(0, .ref (ad 0)), (2, .int (iz v2))] [.ref (ad 0)] := by
  refine z_iconst X 0 dX13_base_119 ?_
  exact z_sub [0, 1] rfl (wkm_base_120 X K hR _ _ _ h)
set_option maxRecDepth 100000 in
theorem wkm_base_94 {Γ : ZG} {l : Launch} {D : va_G} {cr : List vw_C} {ds : Nat → ClassId} {ad : Nat → Nat} {post : ZS → Prop} (X : ZX Γ cX13_base RX13 2 21) (K : ZCap Γ l (ΘM D cr ds ad) 4 0 0) (hR : ZRetV Γ cX13_base 0 0 post) (v2 : Int) (σ : ZS) (h : wm_base_94 post v2 σ) : Z Γ 0 0 σ [] 94 [(0, .ref (ad 0)), (2, .int (iz v2))] [] := by
  refine z_aload_n X 0 dX13_base_94 rfl ?_
  refine z_aload_n X 0 dX13_base_95 rfl ?_
  refine gM_36 X K dX13_base_96 ?_
  obtain ⟨i1, h⟩ := h
  refine z_if_eq X 119 dX13_base_99 rfl i1 (fun c2 => ?_) (fun c2 => ?_)
  · have h := h.1 c2
    exact z_sub [0, 1] rfl (wkm_base_119 X K hR _ _ h)
  · have h := h.2 c2
    refine z_iload_n X 1 dX13_base_102 rfl ?_
    refine z_aload_n X 0 dX13_base_103 rfl ?_
    refine gM_35 X K dX13_base_104 ?_
    refine z_aload_n X 0 dX13_base_107 rfl ?_
    refine gM_34 X K dX13_base_108 ?_
    refine z_isub X dX13_base_111 ?_
    obtain ⟨i3, h⟩ := h
    obtain ⟨i4, h⟩ := h
    refine z_icmp_gt X 119 dX13_base_112 rfl i3 i4 (fun c5 => ?_) (fun c5 => ?_)
    · have h := h.1 c5
      exact z_sub [0, 1] rfl (wkm_base_119 X K hR _ _ h)
    · have h := h.2 c5
      refine z_iconst X 1 dX13_base_115 ?_
      refine z_goto (tgt := 120) X dX13_base_116 rfl ?_
      exact z_sub [0, 1] rfl (wkm_base_120 X K hR _ _ _ h)
set_option maxRecDepth 100000 in
theorem wkm_base_93 {Γ : ZG} {l : Launch} {D : va_G} {cr : List vw_C} {ds : Nat → ClassId} {ad : Nat → Nat} {post : ZS → Prop} (X : ZX Γ cX13_base RX13 2 21) (K : ZCap Γ l (ΘM D cr ds ad) 4 0 0) (hR : ZRetV Γ cX13_base 0 0 post) (t0 : Int) (σ : ZS) (h : wm_base_93 post t0 σ) : Z Γ 0 0 σ [] 93 [(0, .ref (ad 0))] [.int (iz t0)] := by
  refine z_istore_nK X K (lv' := [(2, .int (iz t0)), (0, .ref (ad 0))]) dX13_base_93 rfl rfl ?_
  exact z_sub [1, 0] rfl (wkm_base_94 X K hR _ _ h)
set_option maxRecDepth 100000 in
theorem wkm_base_65 {Γ : ZG} {l : Launch} {D : va_G} {cr : List vw_C} {ds : Nat → ClassId} {ad : Nat → Nat} {post : ZS → Prop} (X : ZX Γ cX13_base RX13 2 21) (K : ZCap Γ l (ΘM D cr ds ad) 4 0 0) (hR : ZRetV Γ cX13_base 0 0 post) (v1 : Int) (t0 : Int) (σ : ZS) (h : wm_base_65 post v1 t0 σ) : Z Γ 0 0 σ [] 65 [(0, .ref (ad 0)), (1, .int (iz v1))] [.int (iz t0), .ref (ad 0)] := by
  obtain ⟨b2, h⟩ := h
  refine pM_36 X K b2 dX13_base_65 (fun σ1 eσ1 => ?_)
  have h := h σ1 eσ1
  refine z_aload_n X 0 dX13_base_68 rfl ?_
  refine gM_36 X K dX13_base_69 ?_
  obtain ⟨i3, h⟩ := h
  refine z_if_eq X 92 dX13_base_72 rfl i3 (fun c4 => ?_) (fun c4 => ?_)
  · have h := h.1 c4
    refine z_iconst X 0 dX13_base_92 ?_
    exact z_sub [0] rfl (wkm_base_93 X K hR _ _ h)
  · have h := h.2 c4
    refine z_sipush X 250 dX13_base_75 rfl ?_
    refine z_iload_n X 1 dX13_base_78 rfl ?_
    refine z_sipush X 249 dX13_base_79 rfl ?_
    refine z_isub X dX13_base_82 ?_
    refine z_imul X dX13_base_83 ?_
    refine z_aload_n X 0 dX13_base_84 rfl ?_
    refine clm_unmixed X K rfl h (Nat.le_of_ble_eq_true rfl) dX13_base_85 (fun r6 σ5 h => ?_)
    refine z_iadd X dX13_base_88 ?_
    refine z_goto (tgt := 93) X dX13_base_89 rfl ?_
    exact z_sub [0] rfl (wkm_base_93 X K hR _ _ h)
set_option maxRecDepth 100000 in
theorem mt_base (l : Launch) (D : va_G) (cr : List vw_C) (ds : Nat → ClassId) (ad : Nat → Nat) (σ : ZS) (post : ZS → Prop) (h : wm_base  σ post) : ZMetV l (ΘM D cr ds ad) yX13_base cX13_base 4 2 21 0 0 [.ref (ad 0)] σ post := by
  refine ZMetV.of (by decide) (Nat.le_of_ble_eq_true rfl) (fun Γ X K hR => ?_)
  have X : ZX Γ cX13_base RX13 2 21 := X
  refine z_sub [0] (lv' := [(0, .ref (ad 0))]) rfl ?_
  refine z_aload_n X 0 dX13_base_0 rfl ?_
  refine gM_34 X K dX13_base_1 ?_
  refine z_aload_n X 0 dX13_base_4 rfl ?_
  refine gM_35 X K dX13_base_5 ?_
  obtain ⟨i1, h⟩ := h
  obtain ⟨i2, h⟩ := h
  refine z_icmp_ne X 17 dX13_base_8 rfl i1 i2 (fun c3 => ?_) (fun c3 => ?_)
  · have h := h.1 c3
    refine z_aload_n X 0 dX13_base_17 rfl ?_
    refine clm_unmixed X K rfl h (Nat.le_of_ble_eq_true rfl) dX13_base_18 (fun r5 σ4 h => ?_)
    refine z_istore_nK X K (lv' := [(1, .int (iz r5)), (0, .ref (ad 0))]) dX13_base_21 rfl rfl ?_
    refine z_iload_n X 0 dX13_base_22 rfl ?_
    refine z_istore_nK X K (lv' := [(2, .int (iz r5)), (1, .int (iz r5)), (0, .ref (ad 0))]) dX13_base_23 rfl rfl ?_
    refine z_iload_n X 1 dX13_base_24 rfl ?_
    obtain ⟨i6, h⟩ := h
    refine z_if_ne X 41 dX13_base_25 rfl i6 (fun c7 => ?_) (fun c7 => ?_)
    · have h := h.1 c7
      refine z_iload_n X 1 dX13_base_41 rfl ?_
      refine z_sipush X 249 dX13_base_42 rfl ?_
      refine z_icmp_le X 94 dX13_base_45 rfl i6 (by decide) (fun c8 => ?_) (fun c8 => ?_)
      · have h := h.1 c8
        exact z_sub [2, 0] rfl (wkm_base_94 X K hR _ _ h)
      · have h := h.2 c8
        refine z_aload_n X 2 dX13_base_48 rfl ?_
        refine z_aload_n X 2 dX13_base_49 rfl ?_
        refine gM_34 X K dX13_base_50 ?_
        refine z_aload_n X 2 dX13_base_53 rfl ?_
        refine gM_35 X K dX13_base_54 ?_
        obtain ⟨i9, h⟩ := h
        obtain ⟨i10, h⟩ := h
        refine z_icmp_ge X 64 dX13_base_57 rfl i9 i10 (fun c11 => ?_) (fun c11 => ?_)
        · have h := h.1 c11
          refine z_iconst X 0 dX13_base_64 ?_
          exact z_sub [2, 1] rfl (wkm_base_65 X K hR _ _ _ h)
        · have h := h.2 c11
          refine z_iconst X 1 dX13_base_60 ?_
          refine z_goto (tgt := 65) X dX13_base_61 rfl ?_
          exact z_sub [2, 1] rfl (wkm_base_65 X K hR _ _ _ h)
    · have h := h.2 c7
      refine z_aload_n X 2 dX13_base_28 rfl ?_
      refine gM_35 X K dX13_base_29 ?_
      refine z_aload_n X 2 dX13_base_32 rfl ?_
      refine gM_34 X K dX13_base_33 ?_
      refine z_isub X dX13_base_36 ?_
      refine z_topi (fun v2_12 ev2_12 => ?_)
      have h := h v2_12 ev2_12
      refine z_istore_nK X K (lv' := [(2, .int (iz v2_12)), (1, .int (iz r5)), (0, .ref (ad 0))]) dX13_base_37 rfl rfl ?_
      refine z_goto (tgt := 94) X dX13_base_38 rfl ?_
      exact z_sub [2, 0] rfl (wkm_base_94 X K hR _ _ h)
  · have h := h.2 c3
    refine z_aload_n X 0 dX13_base_11 rfl ?_
    refine z_iconst X 0 dX13_base_12 ?_
    refine pM_36 X K (Or.inl rfl) dX13_base_13 (fun σ13 eσ13 => ?_)
    have h := h σ13 eσ13
    exact hR _ _ _ _ _ _ dX13_base_16 (Nat.le_refl 0) (Nat.le_refl 0) h
set_option maxRecDepth 100000 in
theorem clm_base {Γ : ZG} {cc : ByteArray} {fr lo nL pc : Nat} {lv : List (Nat × Value)} {st : List Value} {l : Launch} {D : va_G} {cr : List vw_C} {ds : Nat → ClassId} {ad : Nat → Nat} {σ : ZS} {post : ZS → Prop} (X : ZX Γ cc RX13 fr lo) (K : ZCap Γ l (ΘM D cr ds ad) nL 0 0) (hrm : zroom 3 44 fr lo = true) (h : wm_base  σ post) (hst : (st.map fun v => v.category).sum ≤ 8) (d : decode cc pc = .ok (.invokevirtual 259, 3)) (kk : ∀ (σ' : ZS), post σ' → Z Γ 0 0 σ' [] (pc + 3) lv (st)) : Z Γ 0 0 σ [] pc lv (.ref (ad 0) :: st) :=
  z_callVV' (C := RX13) (q0 := 0) X K (mt_base l D cr ds ad  σ post h) (Nat.le_of_ble_eq_true rfl) rfl rfl rfl (lw_V q1527 q1529 qs64 q127 q1530) ⟨rfl, by decide, by decide, rfl⟩ (zroom_of hrm) ⟨Nat.zero_le _, Nat.zero_le _⟩ hst d rfl kk
/- X13_pad -/
set_option maxRecDepth 100000 in
theorem mt_pad (l : Launch) (D : va_G) (cr : List vw_C) (ds : Nat → ClassId) (ad : Nat → Nat) (a0 : Int) (σ : ZS) (post : Int → ZS → Prop) (h : wm_pad a0 σ post) : ZMetI l (ΘM D cr ds ad) yX13_pad cX13_pad 2 .int 1 0 0 0 [.int (iz a0)] σ post := by
  refine ZMetI.of (by decide) (Nat.le_of_ble_eq_true rfl) (fun Γ X K hR => ?_)
  have X : ZX Γ cX13_pad RX13 1 0 := X
  refine z_sub [0] (lv' := [(0, .int (iz a0))]) rfl ?_
  refine z_sipush X 130 dX13_pad_0 rfl ?_
  refine z_sipush X 149 dX13_pad_3 rfl ?_
  refine z_iload_n X 0 dX13_pad_6 rfl ?_
  refine z_imul X dX13_pad_7 ?_
  refine z_sipush X 253 dX13_pad_8 rfl ?_
  obtain ⟨i1, h⟩ := h
  obtain ⟨g2, h⟩ := h
  refine z_irem X dX13_pad_11 ⟨i1, (by decide), g2, (by decide)⟩ ?_
  refine z_iadd X dX13_pad_12 ?_
  refine z_topi (fun v1_3 ev1_3 => ?_)
  have h := h v1_3 ev1_3
  refine z_istore_nK X K (lv' := [(1, .int (iz v1_3)), (0, .int (iz a0))]) dX13_pad_13 rfl rfl ?_
  refine z_iload_n X 0 dX13_pad_14 rfl ?_
  refine z_sipush X 254 dX13_pad_15 rfl ?_
  obtain ⟨i4, h⟩ := h
  refine z_icmp_le X 29 dX13_pad_18 rfl i4 (by decide) (fun c5 => ?_) (fun c5 => ?_)
  · have h := h.1 c5
    refine z_iload_n X 0 dX13_pad_29 rfl ?_
    exact hR _ _ _ _ _ _ _ dX13_pad_30 rfl (Nat.le_refl 0) (Nat.le_refl 0) h
  · have h := h.2 c5
    refine z_iload_n X 0 dX13_pad_21 rfl ?_
    refine z_sipush X 254 dX13_pad_22 rfl ?_
    refine z_isub X dX13_pad_25 ?_
    refine z_goto (tgt := 30) X dX13_pad_26 rfl ?_
    exact hR _ _ _ _ _ _ _ dX13_pad_30 rfl (Nat.le_refl 0) (Nat.le_refl 0) h
set_option maxRecDepth 100000 in
theorem clm_pad {Γ : ZG} {cc : ByteArray} {fr lo nL pc : Nat} {lv : List (Nat × Value)} {st : List Value} {l : Launch} {D : va_G} {cr : List vw_C} {ds : Nat → ClassId} {ad : Nat → Nat} {a0 : Int} {σ : ZS} {post : Int → ZS → Prop} (X : ZX Γ cc RX13 fr lo) (K : ZCap Γ l (ΘM D cr ds ad) nL 0 0) (hrm : zroom 2 21 fr lo = true) (h : wm_pad a0 σ post) (hst : (st.map fun v => v.category).sum ≤ 8) (d : decode cc pc = .ok (.invokestatic 250, 3)) (kk : ∀ (r : Int) (σ' : ZS), post r σ' → Z Γ 0 0 σ' [] (pc + 3) lv (.int (iz r) :: st)) : Z Γ 0 0 σ [] pc lv (.int (iz a0) :: st) :=
  z_callSI' X K (mt_pad l D cr ds ad a0 σ post h) (lw_S q1507 q1508 q127 q1509) ⟨by decide, by decide, rfl⟩ (zroom_of hrm) ⟨Nat.zero_le _, Nat.zero_le _⟩ hst d rfl kk
/- X13_sixes -/
set_option maxRecDepth 100000 in
theorem wkm_sixes_232 {Γ : ZG} {l : Launch} {D : va_G} {cr : List vw_C} {ds : Nat → ClassId} {ad : Nat → Nat} {post : ZS → Prop} (X : ZX Γ cX13_sixes RX13 2 21) (K : ZCap Γ l (ΘM D cr ds ad) 6 0 0) (hR : ZRetV Γ cX13_sixes 0 0 post) {C2 : Int × ZS → Prop} (hC2 : ∀ (v1 : Int) (σ : ZS), C2 (v1, σ) → Z Γ 0 0 σ [] 2 [(0, .ref (ad 0)), (1, .int (iz v1))] []) (v1 : Int) (t0 : Int) (t1 : Int) (σ : ZS) (h : wm_sixes_232 C2 post v1 t0 t1 σ) : Z Γ 0 0 σ [] 232 [(0, .ref (ad 0)), (1, .int (iz v1))] [.int (iz t0), .int (iz t1), .ref (ad 0)] := by
  refine z_iadd X dX13_sixes_232 ?_
  refine pM_34 X K dX13_sixes_233 (fun σ1 eσ1 => ?_)
  have h := h σ1 eσ1
  refine z_goto (tgt := 2) X dX13_sixes_236 rfl ?_
  exact z_sub [0, 1] rfl (hC2 _ _ h)
set_option maxRecDepth 100000 in
theorem wkm_sixes_218 {Γ : ZG} {l : Launch} {D : va_G} {cr : List vw_C} {ds : Nat → ClassId} {ad : Nat → Nat} {post : ZS → Prop} (X : ZX Γ cX13_sixes RX13 2 21) (K : ZCap Γ l (ΘM D cr ds ad) 6 0 0) (hR : ZRetV Γ cX13_sixes 0 0 post) {C2 : Int × ZS → Prop} (hC2 : ∀ (v1 : Int) (σ : ZS), C2 (v1, σ) → Z Γ 0 0 σ [] 2 [(0, .ref (ad 0)), (1, .int (iz v1))] []) (v1 : Int) (σ : ZS) (h : wm_sixes_218 C2 post v1 σ) : Z Γ 0 0 σ [] 218 [(0, .ref (ad 0)), (1, .int (iz v1))] [] := by
  refine z_aload_n X 0 dX13_sixes_218 rfl ?_
  refine z_dup X dX13_sixes_219 rfl ?_
  refine gM_34 X K dX13_sixes_220 ?_
  refine z_iload_n X 1 dX13_sixes_223 rfl ?_
  obtain ⟨i1, h⟩ := h
  refine z_if_eq X 231 dX13_sixes_224 rfl i1 (fun c2 => ?_) (fun c2 => ?_)
  · have h := h.1 c2
    refine z_iconst X 0 dX13_sixes_231 ?_
    exact z_sub [0, 1] rfl (wkm_sixes_232 X K hR hC2 _ _ _ _ h)
  · have h := h.2 c2
    refine z_iconst X 3 dX13_sixes_227 ?_
    refine z_goto (tgt := 232) X dX13_sixes_228 rfl ?_
    exact z_sub [0, 1] rfl (wkm_sixes_232 X K hR hC2 _ _ _ _ h)
set_option maxRecDepth 100000 in
theorem wkm_sixes_209 {Γ : ZG} {l : Launch} {D : va_G} {cr : List vw_C} {ds : Nat → ClassId} {ad : Nat → Nat} {post : ZS → Prop} (X : ZX Γ cX13_sixes RX13 2 21) (K : ZCap Γ l (ΘM D cr ds ad) 6 0 0) (hR : ZRetV Γ cX13_sixes 0 0 post) {C2 : Int × ZS → Prop} (hC2 : ∀ (v1 : Int) (σ : ZS), C2 (v1, σ) → Z Γ 0 0 σ [] 2 [(0, .ref (ad 0)), (1, .int (iz v1))] []) {C68 : Int × Int × Int × ZS → Prop} (hC68 : ∀ (v1 : Int) (v2 : Int) (v3 : Int) (σ : ZS), C68 (v1, v2, v3, σ) → Z Γ 0 0 σ [] 68 [(0, .ref (ad 0)), (1, .int (iz v1)), (2, .int (iz v2)), (3, .int (iz v3))] []) (v1 : Int) (v2 : Int) (v3 : Int) (t0 : Int) (σ : ZS) (h : wm_sixes_209 C2 C68 post v1 v2 v3 t0 σ) : Z Γ 0 0 σ [] 209 [(0, .ref (ad 0)), (1, .int (iz v1)), (2, .int (iz v2)), (3, .int (iz v3))] [.int (iz t0), .ref (ad 0)] := by
  refine clm_tell X K rfl h (Nat.le_of_ble_eq_true rfl) dX13_sixes_209 (fun σ1 h => ?_)
  refine z_iincK X K 3 (lv' := [(3, .int (iz (v3 + 1))), (0, .ref (ad 0)), (1, .int (iz v1)), (2, .int (iz v2))]) dX13_sixes_212 rfl rfl rfl ?_
  refine z_goto (tgt := 68) X dX13_sixes_215 rfl ?_
  exact z_sub [1, 2, 3, 0] rfl (hC68 _ _ _ _ h)
set_option maxRecDepth 100000 in
theorem wkm_sixes_184 {Γ : ZG} {l : Launch} {D : va_G} {cr : List vw_C} {ds : Nat → ClassId} {ad : Nat → Nat} {post : ZS → Prop} (X : ZX Γ cX13_sixes RX13 2 21) (K : ZCap Γ l (ΘM D cr ds ad) 6 0 0) (hR : ZRetV Γ cX13_sixes 0 0 post) {C2 : Int × ZS → Prop} (hC2 : ∀ (v1 : Int) (σ : ZS), C2 (v1, σ) → Z Γ 0 0 σ [] 2 [(0, .ref (ad 0)), (1, .int (iz v1))] []) {C68 : Int × Int × Int × ZS → Prop} (hC68 : ∀ (v1 : Int) (v2 : Int) (v3 : Int) (σ : ZS), C68 (v1, v2, v3, σ) → Z Γ 0 0 σ [] 68 [(0, .ref (ad 0)), (1, .int (iz v1)), (2, .int (iz v2)), (3, .int (iz v3))] []) (v1 : Int) (v2 : Int) (v3 : Int) (t0 : Int) (t1 : Int) (σ : ZS) (h : wm_sixes_184 C2 C68 post v1 v2 v3 t0 t1 σ) : Z Γ 0 0 σ [] 184 [(0, .ref (ad 0)), (1, .int (iz v1)), (2, .int (iz v2)), (3, .int (iz v3))] [.int (iz t0), .int (iz t1), .ref (ad 0)] := by
  refine z_iadd X dX13_sixes_184 ?_
  refine pM_34 X K dX13_sixes_185 (fun σ1 eσ1 => ?_)
  have h := h σ1 eσ1
  refine z_goto (tgt := 215) X dX13_sixes_188 rfl ?_
  refine z_goto (tgt := 68) X dX13_sixes_215 rfl ?_
  exact z_sub [0, 1, 2, 3] rfl (hC68 _ _ _ _ h)
set_option maxRecDepth 100000 in
theorem wkm_sixes_158 {Γ : ZG} {l : Launch} {D : va_G} {cr : List vw_C} {ds : Nat → ClassId} {ad : Nat → Nat} {post : ZS → Prop} (X : ZX Γ cX13_sixes RX13 2 21) (K : ZCap Γ l (ΘM D cr ds ad) 6 0 0) (hR : ZRetV Γ cX13_sixes 0 0 post) {C2 : Int × ZS → Prop} (hC2 : ∀ (v1 : Int) (σ : ZS), C2 (v1, σ) → Z Γ 0 0 σ [] 2 [(0, .ref (ad 0)), (1, .int (iz v1))] []) {C68 : Int × Int × Int × ZS → Prop} (hC68 : ∀ (v1 : Int) (v2 : Int) (v3 : Int) (σ : ZS), C68 (v1, v2, v3, σ) → Z Γ 0 0 σ [] 68 [(0, .ref (ad 0)), (1, .int (iz v1)), (2, .int (iz v2)), (3, .int (iz v3))] []) (v1 : Int) (v2 : Int) (v3 : Int) (t0 : Int) (σ : ZS) (h : wm_sixes_158 C2 C68 post v1 v2 v3 t0 σ) : Z Γ 0 0 σ [] 158 [(0, .ref (ad 0)), (1, .int (iz v1)), (2, .int (iz v2)), (3, .int (iz v3))] [.int (iz t0), .ref (ad 0)] := by
  obtain ⟨b2, h⟩ := h
  refine pM_36 X K b2 dX13_sixes_158 (fun σ1 eσ1 => ?_)
  have h := h σ1 eσ1
  refine z_aload_n X 0 dX13_sixes_161 rfl ?_
  refine z_dup X dX13_sixes_162 rfl ?_
  refine gM_34 X K dX13_sixes_163 ?_
  refine z_iload_n X 3 dX13_sixes_166 rfl ?_
  obtain ⟨i3, h⟩ := h
  refine z_if_ne X 174 dX13_sixes_167 rfl i3 (fun c4 => ?_) (fun c4 => ?_)
  · have h := h.1 c4
    refine z_iload_n X 3 dX13_sixes_174 rfl ?_
    refine z_iconst X 1 dX13_sixes_175 ?_
    refine z_icmp_ne X 183 dX13_sixes_176 rfl i3 (by decide) (fun c5 => ?_) (fun c5 => ?_)
    · have h := h.1 c5
      refine z_iconst X 3 dX13_sixes_183 ?_
      exact z_sub [0, 1, 2, 3] rfl (wkm_sixes_184 X K hR hC2 hC68 _ _ _ _ _ _ h)
    · have h := h.2 c5
      refine z_iconst X 2 dX13_sixes_179 ?_
      refine z_goto (tgt := 184) X dX13_sixes_180 rfl ?_
      exact z_sub [0, 1, 2, 3] rfl (wkm_sixes_184 X K hR hC2 hC68 _ _ _ _ _ _ h)
  · have h := h.2 c4
    refine z_iconst X 1 dX13_sixes_170 ?_
    refine z_goto (tgt := 184) X dX13_sixes_171 rfl ?_
    exact z_sub [0, 1, 2, 3] rfl (wkm_sixes_184 X K hR hC2 hC68 _ _ _ _ _ _ h)
set_option maxRecDepth 100000 in
theorem wkm_sixes_128 {Γ : ZG} {l : Launch} {D : va_G} {cr : List vw_C} {ds : Nat → ClassId} {ad : Nat → Nat} {post : ZS → Prop} (X : ZX Γ cX13_sixes RX13 2 21) (K : ZCap Γ l (ΘM D cr ds ad) 6 0 0) (hR : ZRetV Γ cX13_sixes 0 0 post) {C2 : Int × ZS → Prop} (hC2 : ∀ (v1 : Int) (σ : ZS), C2 (v1, σ) → Z Γ 0 0 σ [] 2 [(0, .ref (ad 0)), (1, .int (iz v1))] []) {C68 : Int × Int × Int × ZS → Prop} (hC68 : ∀ (v1 : Int) (v2 : Int) (v3 : Int) (σ : ZS), C68 (v1, v2, v3, σ) → Z Γ 0 0 σ [] 68 [(0, .ref (ad 0)), (1, .int (iz v1)), (2, .int (iz v2)), (3, .int (iz v3))] []) (v1 : Int) (v2 : Int) (v3 : Int) (t0 : Int) (σ : ZS) (h : wm_sixes_128 C2 C68 post v1 v2 v3 t0 σ) : Z Γ 0 0 σ [] 128 [(0, .ref (ad 0)), (1, .int (iz v1)), (2, .int (iz v2)), (3, .int (iz v3))] [.int (iz t0)] := by
  refine z_istoreK X K (lv' := [(5, .int (iz t0)), (0, .ref (ad 0)), (1, .int (iz v1)), (2, .int (iz v2)), (3, .int (iz v3))]) dX13_sixes_128 rfl rfl ?_
  refine z_aload_n X 1 dX13_sixes_130 rfl ?_
  refine z_iload_n X 3 dX13_sixes_131 rfl ?_
  refine z_bipush X 18 dX13_sixes_132 rfl ?_
  refine z_bipush X 6 dX13_sixes_134 rfl ?_
  refine z_iload_n X 4 dX13_sixes_136 rfl ?_
  refine z_imul X dX13_sixes_137 ?_
  refine z_isub X dX13_sixes_138 ?_
  refine z_iload X 0 dX13_sixes_139 rfl ?_
  refine z_isub X dX13_sixes_141 ?_
  refine z_ishr X dX13_sixes_142 ?_
  refine z_iconst X 1 dX13_sixes_143 ?_
  refine z_iload X 0 dX13_sixes_144 rfl ?_
  refine z_ishl X dX13_sixes_146 ?_
  refine z_iconst X 1 dX13_sixes_147 ?_
  refine z_isub X dX13_sixes_148 ?_
  refine z_iand X dX13_sixes_149 ?_
  obtain ⟨i1, h⟩ := h
  refine z_if_ne X 157 dX13_sixes_150 rfl i1 (fun c2 => ?_) (fun c2 => ?_)
  · have h := h.1 c2
    refine z_iconst X 0 dX13_sixes_157 ?_
    exact z_sub [1, 2, 3, 4] rfl (wkm_sixes_158 X K hR hC2 hC68 _ _ _ _ _ h)
  · have h := h.2 c2
    refine z_iconst X 1 dX13_sixes_153 ?_
    refine z_goto (tgt := 158) X dX13_sixes_154 rfl ?_
    exact z_sub [1, 2, 3, 4] rfl (wkm_sixes_158 X K hR hC2 hC68 _ _ _ _ _ h)
set_option maxRecDepth 100000 in
theorem wkm_sixes_68 {Γ : ZG} {l : Launch} {D : va_G} {cr : List vw_C} {ds : Nat → ClassId} {ad : Nat → Nat} {post : ZS → Prop} (X : ZX Γ cX13_sixes RX13 2 21) (K : ZCap Γ l (ΘM D cr ds ad) 6 0 0) (hR : ZRetV Γ cX13_sixes 0 0 post) {C2 : Int × ZS → Prop} (hC2 : ∀ (v1 : Int) (σ : ZS), C2 (v1, σ) → Z Γ 0 0 σ [] 2 [(0, .ref (ad 0)), (1, .int (iz v1))] []) : ∀ (N : Nat) (v1 : Int) (v2 : Int) (v3 : Int) (σ : ZS), zfix (wbm_sixes_68 C2 post) N (v1, v2, v3, σ) → Z Γ 0 0 σ [] 68 [(0, .ref (ad 0)), (1, .int (iz v1)), (2, .int (iz v2)), (3, .int (iz v3))] [] := by
  intro N
  induction N with
  | zero => intro v1 v2 v3 σ h; exact False.elim h
  | succ N ih =>
    intro v1 v2 v3 σ h
    have h : wbm_sixes_68 C2 post (zfix (wbm_sixes_68 C2 post) N) (v1, v2, v3, σ) := h
    have hC68 := ih
    clear ih
    generalize zfix (wbm_sixes_68 C2 post) N = C68 at h hC68
    dsimp only [wbm_sixes_68] at h
    refine z_iload_n X 3 dX13_sixes_68 rfl ?_
    refine z_iconst X 4 dX13_sixes_69 ?_
    obtain ⟨i1, h⟩ := h
    refine z_icmp_ge X 218 dX13_sixes_70 rfl i1 (by decide) (fun c2 => ?_) (fun c2 => ?_)
    · have h := h.1 c2
      exact z_sub [0, 1] rfl (wkm_sixes_218 X K hR hC2 _ _ h)
    · have h := h.2 c2
      refine z_iload_n X 1 dX13_sixes_73 rfl ?_
      obtain ⟨i3, h⟩ := h
      refine z_if_eq X 218 dX13_sixes_74 rfl i3 (fun c4 => ?_) (fun c4 => ?_)
      · have h := h.1 c4
        exact z_sub [0, 1] rfl (wkm_sixes_218 X K hR hC2 _ _ h)
      · have h := h.2 c4
        refine z_iload_n X 2 dX13_sixes_77 rfl ?_
        refine z_bipush X 18 dX13_sixes_78 rfl ?_
        refine z_bipush X 6 dX13_sixes_80 rfl ?_
        refine z_iload_n X 3 dX13_sixes_82 rfl ?_
        refine z_imul X dX13_sixes_83 ?_
        refine z_isub X dX13_sixes_84 ?_
        refine z_ishr X dX13_sixes_85 ?_
        refine z_bipush X 63 dX13_sixes_86 rfl ?_
        refine z_iandm X 6 (M := 64) rfl rfl rfl dX13_sixes_88 ?_
        refine z_topi (fun v4_5 ev4_5 => ?_)
        have h := h v4_5 ev4_5
        refine z_istoreK X K (lv' := [(4, .int (iz v4_5)), (0, .ref (ad 0)), (1, .int (iz v1)), (2, .int (iz v2)), (3, .int (iz v3))]) dX13_sixes_89 rfl rfl ?_
        refine z_iload X 0 dX13_sixes_91 rfl ?_
        refine z_bipush X 31 dX13_sixes_93 rfl ?_
        obtain ⟨i6, h⟩ := h
        refine z_icmp_ne X 191 dX13_sixes_95 rfl i6 (by decide) (fun c7 => ?_) (fun c7 => ?_)
        · have h := h.1 c7
          refine z_aload_n X 1 dX13_sixes_191 rfl ?_
          refine z_iload X 0 dX13_sixes_192 rfl ?_
          refine z_bipush X 31 dX13_sixes_194 rfl ?_
          refine z_icmp_ge X 207 dX13_sixes_196 rfl i6 (by decide) (fun c8 => ?_) (fun c8 => ?_)
          · have h := h.1 c8
            refine z_iload X 0 dX13_sixes_207 rfl ?_
            exact z_sub [1, 2, 3, 4] rfl (wkm_sixes_209 X K hR hC2 hC68 _ _ _ _ _ h)
          · have h := h.2 c8
            refine z_iload X 0 dX13_sixes_199 rfl ?_
            refine z_bipush X 64 dX13_sixes_201 rfl ?_
            refine z_iadd X dX13_sixes_203 ?_
            refine z_goto (tgt := 209) X dX13_sixes_204 rfl ?_
            exact z_sub [1, 2, 3, 4] rfl (wkm_sixes_209 X K hR hC2 hC68 _ _ _ _ _ h)
        · have h := h.2 c7
          refine z_iconst X 0 dX13_sixes_98 ?_
          refine z_istore_nK X K (lv' := [(1, .int (iz 0)), (4, .int (iz v4_5)), (0, .ref (ad 0)), (2, .int (iz v2)), (3, .int (iz v3))]) dX13_sixes_99 rfl rfl ?_
          refine z_iload_n X 4 dX13_sixes_100 rfl ?_
          refine z_if_ne X 108 dX13_sixes_101 rfl i1 (fun c9 => ?_) (fun c9 => ?_)
          · have h := h.1 c9
            refine z_iload_n X 4 dX13_sixes_108 rfl ?_
            refine z_iconst X 1 dX13_sixes_109 ?_
            refine z_icmp_ne X 117 dX13_sixes_110 rfl i1 (by decide) (fun c10 => ?_) (fun c10 => ?_)
            · have h := h.1 c10
              refine z_iload_n X 4 dX13_sixes_117 rfl ?_
              refine z_iconst X 2 dX13_sixes_118 ?_
              refine z_icmp_ne X 127 dX13_sixes_119 rfl i1 (by decide) (fun c11 => ?_) (fun c11 => ?_)
              · have h := h.1 c11
                refine z_iconst X 0 dX13_sixes_127 ?_
                exact z_sub [2, 0, 3, 4] rfl (wkm_sixes_128 X K hR hC2 hC68 _ _ _ _ _ h)
              · have h := h.2 c11
                refine z_bipush X 6 dX13_sixes_122 rfl ?_
                refine z_goto (tgt := 128) X dX13_sixes_124 rfl ?_
                exact z_sub [2, 0, 3, 4] rfl (wkm_sixes_128 X K hR hC2 hC68 _ _ _ _ _ h)
            · have h := h.2 c10
              refine z_iconst X 4 dX13_sixes_113 ?_
              refine z_goto (tgt := 128) X dX13_sixes_114 rfl ?_
              exact z_sub [2, 0, 3, 4] rfl (wkm_sixes_128 X K hR hC2 hC68 _ _ _ _ _ h)
          · have h := h.2 c9
            refine z_iconst X 2 dX13_sixes_104 ?_
            refine z_goto (tgt := 128) X dX13_sixes_105 rfl ?_
            exact z_sub [2, 0, 3, 4] rfl (wkm_sixes_128 X K hR hC2 hC68 _ _ _ _ _ h)
set_option maxRecDepth 100000 in
theorem wkm_sixes_2 {Γ : ZG} {l : Launch} {D : va_G} {cr : List vw_C} {ds : Nat → ClassId} {ad : Nat → Nat} {post : ZS → Prop} (X : ZX Γ cX13_sixes RX13 2 21) (K : ZCap Γ l (ΘM D cr ds ad) 6 0 0) (hR : ZRetV Γ cX13_sixes 0 0 post) : ∀ (N : Nat) (v1 : Int) (σ : ZS), zfix (wbm_sixes_2 post) N (v1, σ) → Z Γ 0 0 σ [] 2 [(0, .ref (ad 0)), (1, .int (iz v1))] [] := by
  intro N
  induction N with
  | zero => intro v1 σ h; exact False.elim h
  | succ N ih =>
    intro v1 σ h
    have h : wbm_sixes_2 post (zfix (wbm_sixes_2 post) N) (v1, σ) := h
    have hC2 := ih
    clear ih
    generalize zfix (wbm_sixes_2 post) N = C2 at h hC2
    dsimp only [wbm_sixes_2] at h
    refine z_iload_n X 1 dX13_sixes_2 rfl ?_
    obtain ⟨i1, h⟩ := h
    refine z_if_eq X 239 dX13_sixes_3 rfl i1 (fun c2 => ?_) (fun c2 => ?_)
    · have h := h.1 c2
      exact hR _ _ _ _ _ _ dX13_sixes_239 (Nat.le_refl 0) (Nat.le_refl 0) h
    · have h := h.2 c2
      refine z_aload_n X 0 dX13_sixes_6 rfl ?_
      refine gM_36 X K dX13_sixes_7 ?_
      obtain ⟨i3, h⟩ := h
      refine z_if_eq X 239 dX13_sixes_10 rfl i3 (fun c4 => ?_) (fun c4 => ?_)
      · have h := h.1 c4
        exact hR _ _ _ _ _ _ dX13_sixes_239 (Nat.le_refl 0) (Nat.le_refl 0) h
      · have h := h.2 c4
        refine z_aload_n X 0 dX13_sixes_13 rfl ?_
        refine gM_35 X K dX13_sixes_14 ?_
        refine z_aload_n X 0 dX13_sixes_17 rfl ?_
        refine gM_34 X K dX13_sixes_18 ?_
        refine z_isub X dX13_sixes_21 ?_
        refine z_iconst X 3 dX13_sixes_22 ?_
        obtain ⟨i5, h⟩ := h
        refine z_icmp_lt X 239 dX13_sixes_23 rfl i5 (by decide) (fun c6 => ?_) (fun c6 => ?_)
        · have h := h.1 c6
          exact hR _ _ _ _ _ _ dX13_sixes_239 (Nat.le_refl 0) (Nat.le_refl 0) h
        · have h := h.2 c6
          refine z_aload_n X 0 dX13_sixes_26 rfl ?_
          refine gM_20 X K dX13_sixes_27 ?_
          refine z_aload_n X 0 dX13_sixes_30 rfl ?_
          refine gM_34 X K dX13_sixes_31 ?_
          obtain ⟨x7, h⟩ := h
          refine aM_13 X K dX13_sixes_34 x7 ?_
          refine z_bipush X 16 dX13_sixes_35 rfl ?_
          refine z_ishlm X 16 (M := 65536) rfl rfl rfl dX13_sixes_37 ?_
          refine z_aload_n X 0 dX13_sixes_38 rfl ?_
          refine gM_20 X K dX13_sixes_39 ?_
          refine z_aload_n X 0 dX13_sixes_42 rfl ?_
          refine gM_34 X K dX13_sixes_43 ?_
          refine z_iconst X 1 dX13_sixes_46 ?_
          refine z_iadd X dX13_sixes_47 ?_
          obtain ⟨x8, h⟩ := h
          refine aM_13 X K dX13_sixes_48 x8 ?_
          refine z_bipush X 8 dX13_sixes_49 rfl ?_
          refine z_ishlm X 8 (M := 256) rfl rfl rfl dX13_sixes_51 ?_
          refine z_ior X dX13_sixes_52 ?_
          refine z_aload_n X 0 dX13_sixes_53 rfl ?_
          refine gM_20 X K dX13_sixes_54 ?_
          refine z_aload_n X 0 dX13_sixes_57 rfl ?_
          refine gM_34 X K dX13_sixes_58 ?_
          refine z_iconst X 2 dX13_sixes_61 ?_
          refine z_iadd X dX13_sixes_62 ?_
          obtain ⟨x9, h⟩ := h
          refine aM_13 X K dX13_sixes_63 x9 ?_
          refine z_ior X dX13_sixes_64 ?_
          refine z_topi (fun v2_10 ev2_10 => ?_)
          have h := h v2_10 ev2_10
          refine z_istore_nK X K (lv' := [(2, .int (iz v2_10)), (0, .ref (ad 0)), (1, .int (iz v1))]) dX13_sixes_65 rfl rfl ?_
          refine z_iconst X 0 dX13_sixes_66 ?_
          refine z_istore_nK X K (lv' := [(3, .int (iz 0)), (2, .int (iz v2_10)), (0, .ref (ad 0)), (1, .int (iz v1))]) dX13_sixes_67 rfl rfl ?_
          obtain ⟨N, h⟩ := h
          exact z_sub [2, 3, 1, 0] rfl (wkm_sixes_68 X K hR hC2 N _ _ _ _ h)
set_option maxRecDepth 100000 in
theorem mt_sixes (l : Launch) (D : va_G) (cr : List vw_C) (ds : Nat → ClassId) (ad : Nat → Nat) (σ : ZS) (post : ZS → Prop) (h : wm_sixes  σ post) : ZMetV l (ΘM D cr ds ad) yX13_sixes cX13_sixes 6 2 21 0 0 [.ref (ad 0)] σ post := by
  refine ZMetV.of (by decide) (Nat.le_of_ble_eq_true rfl) (fun Γ X K hR => ?_)
  have X : ZX Γ cX13_sixes RX13 2 21 := X
  refine z_sub [0] (lv' := [(0, .ref (ad 0))]) rfl ?_
  refine z_iconst X 1 dX13_sixes_0 ?_
  refine z_istore_nK X K (lv' := [(1, .int (iz 1)), (0, .ref (ad 0))]) dX13_sixes_1 rfl rfl ?_
  obtain ⟨N, h⟩ := h
  exact z_sub [1, 0] rfl (wkm_sixes_2 X K hR N _ _ h)
set_option maxRecDepth 100000 in
theorem clm_sixes {Γ : ZG} {cc : ByteArray} {fr lo nL pc : Nat} {lv : List (Nat × Value)} {st : List Value} {l : Launch} {D : va_G} {cr : List vw_C} {ds : Nat → ClassId} {ad : Nat → Nat} {σ : ZS} {post : ZS → Prop} (X : ZX Γ cc RX13 fr lo) (K : ZCap Γ l (ΘM D cr ds ad) nL 0 0) (hrm : zroom 3 46 fr lo = true) (h : wm_sixes  σ post) (hst : (st.map fun v => v.category).sum ≤ 8) (d : decode cc pc = .ok (.invokevirtual 256, 3)) (kk : ∀ (σ' : ZS), post σ' → Z Γ 0 0 σ' [] (pc + 3) lv (st)) : Z Γ 0 0 σ [] pc lv (.ref (ad 0) :: st) :=
  z_callVV' (C := RX13) (q0 := 0) X K (mt_sixes l D cr ds ad  σ post h) (Nat.le_of_ble_eq_true rfl) rfl rfl rfl (lw_V q1523 q1525 qs63 q127 q1526) ⟨rfl, by decide, by decide, rfl⟩ (zroom_of hrm) ⟨Nat.zero_le _, Nat.zero_le _⟩ hst d rfl kk
/- X13_shifted -/
set_option maxRecDepth 100000 in
theorem wkm_shifted_23 {Γ : ZG} {l : Launch} {D : va_G} {cr : List vw_C} {ds : Nat → ClassId} {ad : Nat → Nat} {post : ZS → Prop} (X : ZX Γ cX13_shifted RX13 2 21) (K : ZCap Γ l (ΘM D cr ds ad) 2 0 0) (hR : ZRetV Γ cX13_shifted 0 0 post) (t0 : Int) (t1 : Int) (σ : ZS) (h : wm_shifted_23 post t0 t1 σ) : Z Γ 0 0 σ [] 23 [(0, .ref (ad 0))] [.int (iz t0), .int (iz t1), .ref (ad 0)] := by
  refine z_iadd X dX13_shifted_23 ?_
  refine clm_tell X K rfl h (Nat.le_of_ble_eq_true rfl) dX13_shifted_24 (fun σ1 h => ?_)
  refine z_aload_n X 0 dX13_shifted_27 rfl ?_
  refine z_iconst X 0 dX13_shifted_28 ?_
  refine pM_38 X K (Or.inl rfl) dX13_shifted_29 (fun σ2 eσ2 => ?_)
  have h := h σ2 eσ2
  exact hR _ _ _ _ _ _ dX13_shifted_32 (Nat.le_refl 0) (Nat.le_refl 0) h
set_option maxRecDepth 100000 in
theorem mt_shifted (l : Launch) (D : va_G) (cr : List vw_C) (ds : Nat → ClassId) (ad : Nat → Nat) (a0 : Int) (σ : ZS) (post : ZS → Prop) (h : wm_shifted a0 σ post) : ZMetV l (ΘM D cr ds ad) yX13_shifted cX13_shifted 2 2 21 0 0 [.ref (ad 0), .int (iz a0)] σ post := by
  refine ZMetV.of (by decide) (Nat.le_of_ble_eq_true rfl) (fun Γ X K hR => ?_)
  have X : ZX Γ cX13_shifted RX13 2 21 := X
  refine z_sub [0, 1] (lv' := [(0, .ref (ad 0)), (1, .int (iz a0))]) rfl ?_
  refine z_aload_n X 0 dX13_shifted_0 rfl ?_
  refine gM_36 X K dX13_shifted_1 ?_
  obtain ⟨i1, h⟩ := h
  refine z_if_eq X 32 dX13_shifted_4 rfl i1 (fun c2 => ?_) (fun c2 => ?_)
  · have h := h.1 c2
    exact hR _ _ _ _ _ _ dX13_shifted_32 (Nat.le_refl 0) (Nat.le_refl 0) h
  · have h := h.2 c2
    refine z_aload_n X 0 dX13_shifted_7 rfl ?_
    refine z_iload_n X 1 dX13_shifted_8 rfl ?_
    refine z_aload_n X 0 dX13_shifted_9 rfl ?_
    refine gM_38 X K dX13_shifted_10 ?_
    obtain ⟨i3, h⟩ := h
    refine z_if_eq X 22 dX13_shifted_13 rfl i3 (fun c4 => ?_) (fun c4 => ?_)
    · have h := h.1 c4
      refine z_iconst X 0 dX13_shifted_22 ?_
      exact z_sub [0] rfl (wkm_shifted_23 X K hR _ _ _ h)
    · have h := h.2 c4
      refine z_sipush X 128 dX13_shifted_16 rfl ?_
      refine z_goto (tgt := 23) X dX13_shifted_19 rfl ?_
      exact z_sub [0] rfl (wkm_shifted_23 X K hR _ _ _ h)
set_option maxRecDepth 100000 in
theorem clm_shifted {Γ : ZG} {cc : ByteArray} {fr lo nL pc : Nat} {lv : List (Nat × Value)} {st : List Value} {l : Launch} {D : va_G} {cr : List vw_C} {ds : Nat → ClassId} {ad : Nat → Nat} {a0 : Int} {σ : ZS} {post : ZS → Prop} (X : ZX Γ cc RX13 fr lo) (K : ZCap Γ l (ΘM D cr ds ad) nL 0 0) (hrm : zroom 3 42 fr lo = true) (h : wm_shifted a0 σ post) (hst : (st.map fun v => v.category).sum ≤ 8) (d : decode cc pc = .ok (.invokevirtual 275, 3)) (kk : ∀ (σ' : ZS), post σ' → Z Γ 0 0 σ' [] (pc + 3) lv (st)) : Z Γ 0 0 σ [] pc lv (.int (iz a0) :: .ref (ad 0) :: st) :=
  z_callVV' (C := RX13) (q0 := 0) X K (mt_shifted l D cr ds ad a0 σ post h) (Nat.le_of_ble_eq_true rfl) rfl rfl rfl (lw_V q1519 q1521 qs62 q127 q1522) ⟨rfl, by decide, by decide, rfl⟩ (zroom_of hrm) ⟨Nat.zero_le _, Nat.zero_le _⟩ hst d rfl kk
/- X13_value -/
set_option maxRecDepth 100000 in
theorem wkm_value_316 {Γ : ZG} {l : Launch} {D : va_G} {cr : List vw_C} {ds : Nat → ClassId} {ad : Nat → Nat} {post : ZS → Prop} (X : ZX Γ cX13_value RX13 3 42) (K : ZCap Γ l (ΘM D cr ds ad) 5 0 0) (hR : ZRetV Γ cX13_value 0 0 post) (v4 : Int) (t0 : Int) (σ : ZS) (h : wm_value_316 post v4 t0 σ) : Z Γ 0 0 σ [] 316 [(0, .ref (ad 0)), (4, .int (iz v4))] [.int (iz t0), .ref (ad 0)] := by
  obtain ⟨b2, h⟩ := h
  refine pM_36 X K b2 dX13_value_316 (fun σ1 eσ1 => ?_)
  have h := h σ1 eσ1
  refine z_aload_n X 0 dX13_value_319 rfl ?_
  refine z_iconst X (-1) dX13_value_320 ?_
  refine pM_37 X K dX13_value_321 (fun σ3 eσ3 => ?_)
  have h := h σ3 eσ3
  refine z_aload_n X 0 dX13_value_324 rfl ?_
  refine z_iload X 1 dX13_value_325 rfl ?_
  refine clm_shifted X K rfl h (Nat.le_of_ble_eq_true rfl) dX13_value_327 (fun σ4 h => ?_)
  exact hR _ _ _ _ _ _ dX13_value_330 (Nat.le_refl 0) (Nat.le_refl 0) h
set_option maxRecDepth 100000 in
theorem wkm_value_305 {Γ : ZG} {l : Launch} {D : va_G} {cr : List vw_C} {ds : Nat → ClassId} {ad : Nat → Nat} {post : ZS → Prop} (X : ZX Γ cX13_value RX13 3 42) (K : ZCap Γ l (ΘM D cr ds ad) 5 0 0) (hR : ZRetV Γ cX13_value 0 0 post) (v4 : Int) (σ : ZS) (h : wm_value_305 post v4 σ) : Z Γ 0 0 σ [] 305 [(0, .ref (ad 0)), (4, .int (iz v4))] [] := by
  refine z_aload_n X 0 dX13_value_305 rfl ?_
  refine z_iload X 1 dX13_value_306 rfl ?_
  obtain ⟨i1, h⟩ := h
  refine z_if_lt X 315 dX13_value_308 rfl i1 (fun c2 => ?_) (fun c2 => ?_)
  · have h := h.1 c2
    refine z_iconst X 0 dX13_value_315 ?_
    exact z_sub [0, 1] rfl (wkm_value_316 X K hR _ _ _ h)
  · have h := h.2 c2
    refine z_iconst X 1 dX13_value_311 ?_
    refine z_goto (tgt := 316) X dX13_value_312 rfl ?_
    exact z_sub [0, 1] rfl (wkm_value_316 X K hR _ _ _ h)
set_option maxRecDepth 100000 in
theorem wkm_value_303 {Γ : ZG} {l : Launch} {D : va_G} {cr : List vw_C} {ds : Nat → ClassId} {ad : Nat → Nat} {post : ZS → Prop} (X : ZX Γ cX13_value RX13 3 42) (K : ZCap Γ l (ΘM D cr ds ad) 5 0 0) (hR : ZRetV Γ cX13_value 0 0 post) (t0 : Int) (σ : ZS) (h : wm_value_303 post t0 σ) : Z Γ 0 0 σ [] 303 [(0, .ref (ad 0))] [.int (iz t0)] := by
  refine z_istoreK X K (lv' := [(4, .int (iz t0)), (0, .ref (ad 0))]) dX13_value_303 rfl rfl ?_
  exact z_sub [1, 0] rfl (wkm_value_305 X K hR _ _ h)
set_option maxRecDepth 100000 in
theorem wkm_value_224 {Γ : ZG} {l : Launch} {D : va_G} {cr : List vw_C} {ds : Nat → ClassId} {ad : Nat → Nat} {post : ZS → Prop} (X : ZX Γ cX13_value RX13 3 42) (K : ZCap Γ l (ΘM D cr ds ad) 5 0 0) (hR : ZRetV Γ cX13_value 0 0 post) (v2 : Int) (t0 : Int) (σ : ZS) (h : wm_value_224 post v2 t0 σ) : Z Γ 0 0 σ [] 224 [(0, .ref (ad 0)), (2, .int (iz v2))] [.int (iz t0)] := by
  refine z_istoreK X K (lv' := [(4, .int (iz t0)), (0, .ref (ad 0)), (2, .int (iz v2))]) dX13_value_224 rfl rfl ?_
  refine z_iload_n X 2 dX13_value_226 rfl ?_
  refine z_bipush X 30 dX13_value_227 rfl ?_
  obtain ⟨i1, h⟩ := h
  refine z_icmp_ne X 305 dX13_value_229 rfl i1 (by decide) (fun c2 => ?_) (fun c2 => ?_)
  · have h := h.1 c2
    exact z_sub [1, 0] rfl (wkm_value_305 X K hR _ _ h)
  · have h := h.2 c2
    refine z_aload_n X 1 dX13_value_232 rfl ?_
    refine gM_38 X K dX13_value_233 ?_
    obtain ⟨i3, h⟩ := h
    refine z_if_ne X 305 dX13_value_236 rfl i3 (fun c4 => ?_) (fun c4 => ?_)
    · have h := h.1 c4
      exact z_sub [1, 0] rfl (wkm_value_305 X K hR _ _ h)
    · have h := h.2 c4
      refine z_aload_n X 1 dX13_value_239 rfl ?_
      refine z_iconst X 1 dX13_value_240 ?_
      refine pM_38 X K (Or.inr rfl) dX13_value_241 (fun σ5 eσ5 => ?_)
      have h := h σ5 eσ5
      refine z_aload_n X 1 dX13_value_244 rfl ?_
      refine z_iconst X (-1) dX13_value_245 ?_
      refine pM_37 X K dX13_value_246 (fun σ6 eσ6 => ?_)
      have h := h σ6 eσ6
      exact hR _ _ _ _ _ _ dX13_value_249 (Nat.le_refl 0) (Nat.le_refl 0) h
set_option maxRecDepth 100000 in
theorem wkm_value_165 {Γ : ZG} {l : Launch} {D : va_G} {cr : List vw_C} {ds : Nat → ClassId} {ad : Nat → Nat} {post : ZS → Prop} (X : ZX Γ cX13_value RX13 3 42) (K : ZCap Γ l (ΘM D cr ds ad) 5 0 0) (hR : ZRetV Γ cX13_value 0 0 post) (t0 : Int) (σ : ZS) (h : wm_value_165 post t0 σ) : Z Γ 0 0 σ [] 165 [(0, .ref (ad 0))] [.int (iz t0)] := by
  refine z_istoreK X K (lv' := [(4, .int (iz t0)), (0, .ref (ad 0))]) dX13_value_165 rfl rfl ?_
  refine z_goto (tgt := 305) X dX13_value_167 rfl ?_
  exact z_sub [1, 0] rfl (wkm_value_305 X K hR _ _ h)
set_option maxRecDepth 100000 in
theorem wkm_value_140 {Γ : ZG} {l : Launch} {D : va_G} {cr : List vw_C} {ds : Nat → ClassId} {ad : Nat → Nat} {post : ZS → Prop} (X : ZX Γ cX13_value RX13 3 42) (K : ZCap Γ l (ΘM D cr ds ad) 5 0 0) (hR : ZRetV Γ cX13_value 0 0 post) (t0 : Int) (σ : ZS) (h : wm_value_140 post t0 σ) : Z Γ 0 0 σ [] 140 [] [.int (iz t0), .ref (ad 0)] := by
  refine clm_shifted X K rfl h (Nat.le_of_ble_eq_true rfl) dX13_value_140 (fun σ1 h => ?_)
  exact hR _ _ _ _ _ _ dX13_value_143 (Nat.le_refl 0) (Nat.le_refl 0) h
set_option maxRecDepth 100000 in
theorem wkm_value_139 {Γ : ZG} {l : Launch} {D : va_G} {cr : List vw_C} {ds : Nat → ClassId} {ad : Nat → Nat} {post : ZS → Prop} (X : ZX Γ cX13_value RX13 3 42) (K : ZCap Γ l (ΘM D cr ds ad) 5 0 0) (hR : ZRetV Γ cX13_value 0 0 post) (t0 : Int) (t1 : Int) (σ : ZS) (h : wm_value_139 post t0 t1 σ) : Z Γ 0 0 σ [] 139 [] [.int (iz t0), .int (iz t1), .ref (ad 0)] := by
  refine z_iadd X dX13_value_139 ?_
  exact z_sub [] rfl (wkm_value_140 X K hR _ _ h)
set_option maxRecDepth 100000 in
theorem wkm_value_68 {Γ : ZG} {l : Launch} {D : va_G} {cr : List vw_C} {ds : Nat → ClassId} {ad : Nat → Nat} {post : ZS → Prop} (X : ZX Γ cX13_value RX13 3 42) (K : ZCap Γ l (ΘM D cr ds ad) 5 0 0) (hR : ZRetV Γ cX13_value 0 0 post) (t0 : Int) (σ : ZS) (h : wm_value_68 post t0 σ) : Z Γ 0 0 σ [] 68 [] [.int (iz t0), .ref (ad 0)] := by
  refine clm_tell X K rfl h (Nat.le_of_ble_eq_true rfl) dX13_value_68 (fun σ1 h => ?_)
  exact hR _ _ _ _ _ _ dX13_value_71 (Nat.le_refl 0) (Nat.le_refl 0) h
set_option maxRecDepth 100000 in
theorem mt_value (l : Launch) (D : va_G) (cr : List vw_C) (ds : Nat → ClassId) (ad : Nat → Nat) (a0 : Int) (a1 : Int) (a2 : Int) (σ : ZS) (post : ZS → Prop) (h : wm_value a0 a1 a2 σ post) : ZMetV l (ΘM D cr ds ad) yX13_value cX13_value 5 3 42 0 0 [.ref (ad 0), .int (iz a0), .int (iz a1), .int (iz a2)] σ post := by
  refine ZMetV.of (by decide) (Nat.le_of_ble_eq_true rfl) (fun Γ X K hR => ?_)
  have X : ZX Γ cX13_value RX13 3 42 := X
  refine z_sub [0, 1, 2, 3] (lv' := [(0, .ref (ad 0)), (1, .int (iz a0)), (2, .int (iz a1)), (3, .int (iz a2))]) rfl ?_
  refine z_iload_n X 1 dX13_value_0 rfl ?_
  refine z_bipush X 6 dX13_value_1 rfl ?_
  obtain ⟨i1, h⟩ := h
  refine z_icmp_ne X 72 dX13_value_3 rfl i1 (by decide) (fun c2 => ?_) (fun c2 => ?_)
  · have h := h.1 c2
    refine z_aload_n X 0 dX13_value_72 rfl ?_
    refine gM_37 X K dX13_value_73 ?_
    obtain ⟨i3, h⟩ := h
    refine z_if_ge X 144 dX13_value_76 rfl i3 (fun c4 => ?_) (fun c4 => ?_)
    · have h := h.1 c4
      refine z_iconst X (-1) dX13_value_144 ?_
      refine z_istoreK X K (lv' := [(4, .int (iz (-1))), (0, .ref (ad 0)), (1, .int (iz a0)), (2, .int (iz a1)), (3, .int (iz a2))]) dX13_value_145 rfl rfl ?_
      refine z_aload_n X 1 dX13_value_147 rfl ?_
      refine gM_37 X K dX13_value_148 ?_
      refine z_if_ne X 170 dX13_value_151 rfl i3 (fun c5 => ?_) (fun c5 => ?_)
      · have h := h.1 c5
        refine z_aload_n X 1 dX13_value_170 rfl ?_
        refine gM_37 X K dX13_value_171 ?_
        refine z_iconst X 1 dX13_value_174 ?_
        refine z_icmp_ne X 250 dX13_value_175 rfl i3 (by decide) (fun c6 => ?_) (fun c6 => ?_)
        · have h := h.1 c6
          refine z_iload_n X 3 dX13_value_250 rfl ?_
          refine z_bipush X 31 dX13_value_251 rfl ?_
          obtain ⟨i7, h⟩ := h
          refine z_icmp_le X 260 dX13_value_253 rfl i7 (by decide) (fun c8 => ?_) (fun c8 => ?_)
          · have h := h.1 c8
            refine z_iload_n X 2 dX13_value_260 rfl ?_
            refine z_iconst X 4 dX13_value_261 ?_
            refine z_icmp_ne X 272 dX13_value_262 rfl i1 (by decide) (fun c9 => ?_) (fun c9 => ?_)
            · have h := h.1 c9
              refine z_iload_n X 3 dX13_value_272 rfl ?_
              refine z_if_ne X 281 dX13_value_273 rfl i7 (fun c10 => ?_) (fun c10 => ?_)
              · have h := h.1 c10
                refine z_iload_n X 3 dX13_value_281 rfl ?_
                refine z_bipush X 27 dX13_value_282 rfl ?_
                refine z_icmp_ge X 296 dX13_value_284 rfl i7 (by decide) (fun c11 => ?_) (fun c11 => ?_)
                · have h := h.1 c11
                  refine z_bipush X 123 dX13_value_296 rfl ?_
                  refine z_iload_n X 3 dX13_value_298 rfl ?_
                  refine z_iadd X dX13_value_299 ?_
                  refine z_bipush X 27 dX13_value_300 rfl ?_
                  refine z_isub X dX13_value_302 ?_
                  exact z_sub [1] rfl (wkm_value_303 X K hR _ _ h)
                · have h := h.2 c11
                  refine z_bipush X 65 dX13_value_287 rfl ?_
                  refine z_iload_n X 3 dX13_value_289 rfl ?_
                  refine z_iadd X dX13_value_290 ?_
                  refine z_iconst X 1 dX13_value_291 ?_
                  refine z_isub X dX13_value_292 ?_
                  refine z_goto (tgt := 303) X dX13_value_293 rfl ?_
                  exact z_sub [1] rfl (wkm_value_303 X K hR _ _ h)
              · have h := h.2 c10
                refine z_bipush X 96 dX13_value_276 rfl ?_
                refine z_goto (tgt := 303) X dX13_value_278 rfl ?_
                exact z_sub [1] rfl (wkm_value_303 X K hR _ _ h)
            · have h := h.2 c9
              refine z_bipush X 96 dX13_value_265 rfl ?_
              refine z_iload_n X 3 dX13_value_267 rfl ?_
              refine z_iadd X dX13_value_268 ?_
              refine z_goto (tgt := 303) X dX13_value_269 rfl ?_
              exact z_sub [1] rfl (wkm_value_303 X K hR _ _ h)
          · have h := h.2 c8
            refine z_iconst X (-1) dX13_value_256 ?_
            refine z_goto (tgt := 303) X dX13_value_257 rfl ?_
            exact z_sub [1] rfl (wkm_value_303 X K hR _ _ h)
        · have h := h.2 c6
          refine z_iload_n X 3 dX13_value_178 rfl ?_
          refine z_bipush X 15 dX13_value_179 rfl ?_
          obtain ⟨i12, h⟩ := h
          refine z_icmp_ge X 191 dX13_value_181 rfl i12 (by decide) (fun c13 => ?_) (fun c13 => ?_)
          · have h := h.1 c13
            refine z_iload_n X 3 dX13_value_191 rfl ?_
            refine z_bipush X 22 dX13_value_192 rfl ?_
            refine z_icmp_ge X 207 dX13_value_194 rfl i12 (by decide) (fun c14 => ?_) (fun c14 => ?_)
            · have h := h.1 c14
              refine z_iload_n X 3 dX13_value_207 rfl ?_
              refine z_bipush X 27 dX13_value_208 rfl ?_
              refine z_icmp_ge X 223 dX13_value_210 rfl i12 (by decide) (fun c15 => ?_) (fun c15 => ?_)
              · have h := h.1 c15
                refine z_iconst X (-1) dX13_value_223 ?_
                exact z_sub [1, 3] rfl (wkm_value_224 X K hR _ _ _ h)
              · have h := h.2 c15
                refine z_bipush X 91 dX13_value_213 rfl ?_
                refine z_iload_n X 3 dX13_value_215 rfl ?_
                refine z_iadd X dX13_value_216 ?_
                refine z_bipush X 22 dX13_value_217 rfl ?_
                refine z_isub X dX13_value_219 ?_
                refine z_goto (tgt := 224) X dX13_value_220 rfl ?_
                exact z_sub [1, 3] rfl (wkm_value_224 X K hR _ _ _ h)
            · have h := h.2 c14
              refine z_bipush X 58 dX13_value_197 rfl ?_
              refine z_iload_n X 3 dX13_value_199 rfl ?_
              refine z_iadd X dX13_value_200 ?_
              refine z_bipush X 15 dX13_value_201 rfl ?_
              refine z_isub X dX13_value_203 ?_
              refine z_goto (tgt := 224) X dX13_value_204 rfl ?_
              exact z_sub [1, 3] rfl (wkm_value_224 X K hR _ _ _ h)
          · have h := h.2 c13
            refine z_bipush X 33 dX13_value_184 rfl ?_
            refine z_iload_n X 3 dX13_value_186 rfl ?_
            refine z_iadd X dX13_value_187 ?_
            refine z_goto (tgt := 224) X dX13_value_188 rfl ?_
            exact z_sub [1, 3] rfl (wkm_value_224 X K hR _ _ _ h)
      · have h := h.2 c5
        refine z_iload_n X 3 dX13_value_154 rfl ?_
        refine z_bipush X 32 dX13_value_155 rfl ?_
        obtain ⟨i16, h⟩ := h
        refine z_icmp_ge X 164 dX13_value_157 rfl i16 (by decide) (fun c17 => ?_) (fun c17 => ?_)
        · have h := h.1 c17
          refine z_iconst X (-1) dX13_value_164 ?_
          exact z_sub [1] rfl (wkm_value_165 X K hR _ _ h)
        · have h := h.2 c17
          refine z_iload_n X 3 dX13_value_160 rfl ?_
          refine z_goto (tgt := 165) X dX13_value_161 rfl ?_
          exact z_sub [1] rfl (wkm_value_165 X K hR _ _ h)
    · have h := h.2 c4
      refine z_iload_n X 2 dX13_value_79 rfl ?_
      refine z_iconst X 3 dX13_value_80 ?_
      obtain ⟨i18, h⟩ := h
      refine z_icmp_ge X 97 dX13_value_81 rfl i18 (by decide) (fun c19 => ?_) (fun c19 => ?_)
      · have h := h.1 c19
        refine z_aload_n X 0 dX13_value_97 rfl ?_
        refine z_iload_n X 2 dX13_value_98 rfl ?_
        refine z_iconst X 3 dX13_value_99 ?_
        refine z_icmp_ne X 108 dX13_value_100 rfl i18 (by decide) (fun c20 => ?_) (fun c20 => ?_)
        · have h := h.1 c20
          refine z_iload_n X 2 dX13_value_108 rfl ?_
          refine z_bipush X 14 dX13_value_109 rfl ?_
          refine z_icmp_ge X 123 dX13_value_111 rfl i18 (by decide) (fun c21 => ?_) (fun c21 => ?_)
          · have h := h.1 c21
            refine z_iload_n X 2 dX13_value_123 rfl ?_
            refine z_bipush X 14 dX13_value_124 rfl ?_
            refine z_isub X dX13_value_126 ?_
            refine z_iload_n X 1 dX13_value_127 rfl ?_
            refine z_iconst X 4 dX13_value_128 ?_
            refine z_icmp_ne X 137 dX13_value_129 rfl i1 (by decide) (fun c22 => ?_) (fun c22 => ?_)
            · have h := h.1 c22
              refine z_bipush X 97 dX13_value_137 rfl ?_
              exact z_sub [] rfl (wkm_value_139 X K hR _ _ _ h)
            · have h := h.2 c22
              refine z_bipush X 65 dX13_value_132 rfl ?_
              refine z_goto (tgt := 139) X dX13_value_134 rfl ?_
              exact z_sub [] rfl (wkm_value_139 X K hR _ _ _ h)
          · have h := h.2 c21
            refine z_bipush X 48 dX13_value_114 rfl ?_
            refine z_iload_n X 2 dX13_value_116 rfl ?_
            refine z_iadd X dX13_value_117 ?_
            refine z_iconst X 4 dX13_value_118 ?_
            refine z_isub X dX13_value_119 ?_
            refine z_goto (tgt := 140) X dX13_value_120 rfl ?_
            exact z_sub [] rfl (wkm_value_140 X K hR _ _ h)
        · have h := h.2 c20
          refine z_bipush X 32 dX13_value_103 rfl ?_
          refine z_goto (tgt := 140) X dX13_value_105 rfl ?_
          exact z_sub [] rfl (wkm_value_140 X K hR _ _ h)
      · have h := h.2 c19
        refine z_aload_n X 0 dX13_value_84 rfl ?_
        refine z_iload_n X 2 dX13_value_85 rfl ?_
        refine pM_37 X K dX13_value_86 (fun σ23 eσ23 => ?_)
        have h := h σ23 eσ23
        refine z_aload_n X 0 dX13_value_89 rfl ?_
        refine z_iload_n X 3 dX13_value_90 rfl ?_
        refine pM_39 X K dX13_value_91 (fun σ24 eσ24 => ?_)
        have h := h σ24 eσ24
        refine z_goto (tgt := 143) X dX13_value_94 rfl ?_
        exact hR _ _ _ _ _ _ dX13_value_143 (Nat.le_refl 0) (Nat.le_refl 0) h
  · have h := h.2 c2
    refine z_aload_n X 0 dX13_value_6 rfl ?_
    refine z_iload_n X 2 dX13_value_7 rfl ?_
    obtain ⟨i25, h⟩ := h
    refine z_if_ne X 16 dX13_value_8 rfl i25 (fun c26 => ?_) (fun c26 => ?_)
    · have h := h.1 c26
      refine z_iload_n X 2 dX13_value_16 rfl ?_
      refine z_iconst X 1 dX13_value_17 ?_
      refine z_icmp_ne X 26 dX13_value_18 rfl i25 (by decide) (fun c27 => ?_) (fun c27 => ?_)
      · have h := h.1 c27
        refine z_iload_n X 2 dX13_value_26 rfl ?_
        refine z_iconst X 2 dX13_value_27 ?_
        refine z_icmp_ne X 36 dX13_value_28 rfl i25 (by decide) (fun c28 => ?_) (fun c28 => ?_)
        · have h := h.1 c28
          refine z_iload_n X 2 dX13_value_36 rfl ?_
          refine z_iconst X 3 dX13_value_37 ?_
          refine z_icmp_ne X 46 dX13_value_38 rfl i25 (by decide) (fun c29 => ?_) (fun c29 => ?_)
          · have h := h.1 c29
            refine z_iload_n X 2 dX13_value_46 rfl ?_
            refine z_bipush X 14 dX13_value_47 rfl ?_
            refine z_icmp_ge X 61 dX13_value_49 rfl i25 (by decide) (fun c30 => ?_) (fun c30 => ?_)
            · have h := h.1 c30
              refine z_bipush X 65 dX13_value_61 rfl ?_
              refine z_iload_n X 2 dX13_value_63 rfl ?_
              refine z_iadd X dX13_value_64 ?_
              refine z_bipush X 14 dX13_value_65 rfl ?_
              refine z_isub X dX13_value_67 ?_
              exact z_sub [] rfl (wkm_value_68 X K hR _ _ h)
            · have h := h.2 c30
              refine z_bipush X 48 dX13_value_52 rfl ?_
              refine z_iload_n X 2 dX13_value_54 rfl ?_
              refine z_iadd X dX13_value_55 ?_
              refine z_iconst X 4 dX13_value_56 ?_
              refine z_isub X dX13_value_57 ?_
              refine z_goto (tgt := 68) X dX13_value_58 rfl ?_
              exact z_sub [] rfl (wkm_value_68 X K hR _ _ h)
          · have h := h.2 c29
            refine z_bipush X 32 dX13_value_41 rfl ?_
            refine z_goto (tgt := 68) X dX13_value_43 rfl ?_
            exact z_sub [] rfl (wkm_value_68 X K hR _ _ h)
        · have h := h.2 c28
          refine z_bipush X 62 dX13_value_31 rfl ?_
          refine z_goto (tgt := 68) X dX13_value_33 rfl ?_
          exact z_sub [] rfl (wkm_value_68 X K hR _ _ h)
      · have h := h.2 c27
        refine z_bipush X 42 dX13_value_21 rfl ?_
        refine z_goto (tgt := 68) X dX13_value_23 rfl ?_
        exact z_sub [] rfl (wkm_value_68 X K hR _ _ h)
    · have h := h.2 c26
      refine z_bipush X 13 dX13_value_11 rfl ?_
      refine z_goto (tgt := 68) X dX13_value_13 rfl ?_
      exact z_sub [] rfl (wkm_value_68 X K hR _ _ h)
set_option maxRecDepth 100000 in
theorem clm_value {Γ : ZG} {cc : ByteArray} {fr lo nL pc : Nat} {lv : List (Nat × Value)} {st : List Value} {l : Launch} {D : va_G} {cr : List vw_C} {ds : Nat → ClassId} {ad : Nat → Nat} {a0 : Int} {a1 : Int} {a2 : Int} {σ : ZS} {post : ZS → Prop} (X : ZX Γ cc RX13 fr lo) (K : ZCap Γ l (ΘM D cr ds ad) nL 0 0) (hrm : zroom 4 66 fr lo = true) (h : wm_value a0 a1 a2 σ post) (hst : (st.map fun v => v.category).sum ≤ 8) (d : decode cc pc = .ok (.invokevirtual 269, 3)) (kk : ∀ (σ' : ZS), post σ' → Z Γ 0 0 σ' [] (pc + 3) lv (st)) : Z Γ 0 0 σ [] pc lv (.int (iz a2) :: .int (iz a1) :: .int (iz a0) :: .ref (ad 0) :: st) :=
  z_callVV' (C := RX13) (q0 := 0) X K (mt_value l D cr ds ad a0 a1 a2 σ post h) (Nat.le_of_ble_eq_true rfl) rfl rfl rfl (lw_V q1515 q1517 qs61 q127 q1518) ⟨rfl, by decide, by decide, rfl⟩ (zroom_of hrm) ⟨Nat.zero_le _, Nat.zero_le _⟩ hst d rfl kk
/- X13_threes -/
set_option maxRecDepth 100000 in
theorem wkm_threes_231 {Γ : ZG} {l : Launch} {D : va_G} {cr : List vw_C} {ds : Nat → ClassId} {ad : Nat → Nat} {post : ZS → Prop} (X : ZX Γ cX13_threes RX13 4 66) (K : ZCap Γ l (ΘM D cr ds ad) 5 0 0) (hR : ZRetV Γ cX13_threes 0 0 post) (t0 : Int) (σ : ZS) (h : wm_threes_231 post t0 σ) : Z Γ 0 0 σ [] 231 [] [.int (iz t0), .ref (ad 0)] := by
  obtain ⟨b2, h⟩ := h
  refine pM_36 X K b2 dX13_threes_231 (fun σ1 eσ1 => ?_)
  have h := h σ1 eσ1
  exact hR _ _ _ _ _ _ dX13_threes_234 (Nat.le_refl 0) (Nat.le_refl 0) h
set_option maxRecDepth 100000 in
theorem wkm_threes_230 {Γ : ZG} {l : Launch} {D : va_G} {cr : List vw_C} {ds : Nat → ClassId} {ad : Nat → Nat} {post : ZS → Prop} (X : ZX Γ cX13_threes RX13 4 66) (K : ZCap Γ l (ΘM D cr ds ad) 5 0 0) (hR : ZRetV Γ cX13_threes 0 0 post) (σ : ZS) (h : wm_threes_230 post σ) : Z Γ 0 0 σ [] 230 [] [.ref (ad 0)] := by
  refine z_iconst X 0 dX13_threes_230 ?_
  exact z_sub [] rfl (wkm_threes_231 X K hR _ _ h)
set_option maxRecDepth 100000 in
theorem wkm_threes_189 {Γ : ZG} {l : Launch} {D : va_G} {cr : List vw_C} {ds : Nat → ClassId} {ad : Nat → Nat} {post : ZS → Prop} (X : ZX Γ cX13_threes RX13 4 66) (K : ZCap Γ l (ΘM D cr ds ad) 5 0 0) (hR : ZRetV Γ cX13_threes 0 0 post) (σ : ZS) (h : wm_threes_189 post σ) : Z Γ 0 0 σ [] 189 [(0, .ref (ad 0))] [] := by
  refine z_aload_n X 0 dX13_threes_189 rfl ?_
  refine z_aload_n X 0 dX13_threes_190 rfl ?_
  refine gM_36 X K dX13_threes_191 ?_
  obtain ⟨i1, h⟩ := h
  refine z_if_eq X 230 dX13_threes_194 rfl i1 (fun c2 => ?_) (fun c2 => ?_)
  · have h := h.1 c2
    exact z_sub [] rfl (wkm_threes_230 X K hR _ h)
  · have h := h.2 c2
    refine z_aload_n X 0 dX13_threes_197 rfl ?_
    refine gM_38 X K dX13_threes_198 ?_
    obtain ⟨i3, h⟩ := h
    refine z_if_ne X 230 dX13_threes_201 rfl i3 (fun c4 => ?_) (fun c4 => ?_)
    · have h := h.1 c4
      exact z_sub [] rfl (wkm_threes_230 X K hR _ h)
    · have h := h.2 c4
      refine z_aload_n X 0 dX13_threes_204 rfl ?_
      refine gM_37 X K dX13_threes_205 ?_
      obtain ⟨i5, h⟩ := h
      refine z_if_lt X 226 dX13_threes_208 rfl i5 (fun c6 => ?_) (fun c6 => ?_)
      · have h := h.1 c6
        refine z_iconst X 1 dX13_threes_226 ?_
        refine z_goto (tgt := 231) X dX13_threes_227 rfl ?_
        exact z_sub [] rfl (wkm_threes_231 X K hR _ _ h)
      · have h := h.2 c6
        refine z_aload_n X 0 dX13_threes_211 rfl ?_
        refine gM_37 X K dX13_threes_212 ?_
        refine z_if_ne X 230 dX13_threes_215 rfl i5 (fun c7 => ?_) (fun c7 => ?_)
        · have h := h.1 c7
          exact z_sub [] rfl (wkm_threes_230 X K hR _ h)
        · have h := h.2 c7
          refine z_aload_n X 0 dX13_threes_218 rfl ?_
          refine gM_39 X K dX13_threes_219 ?_
          refine z_iconst X 2 dX13_threes_222 ?_
          obtain ⟨i8, h⟩ := h
          refine z_icmp_ne X 230 dX13_threes_223 rfl i8 (by decide) (fun c9 => ?_) (fun c9 => ?_)
          · have h := h.1 c9
            exact z_sub [] rfl (wkm_threes_230 X K hR _ h)
          · have h := h.2 c9
            refine z_iconst X 1 dX13_threes_226 ?_
            refine z_goto (tgt := 231) X dX13_threes_227 rfl ?_
            exact z_sub [] rfl (wkm_threes_231 X K hR _ _ h)
set_option maxRecDepth 100000 in
theorem wkm_threes_175 {Γ : ZG} {l : Launch} {D : va_G} {cr : List vw_C} {ds : Nat → ClassId} {ad : Nat → Nat} {post : ZS → Prop} (X : ZX Γ cX13_threes RX13 4 66) (K : ZCap Γ l (ΘM D cr ds ad) 5 0 0) (hR : ZRetV Γ cX13_threes 0 0 post) {C12 : Int × Int × ZS → Prop} (hC12 : ∀ (v1 : Int) (v2 : Int) (σ : ZS), C12 (v1, v2, σ) → Z Γ 0 0 σ [] 12 [(0, .ref (ad 0)), (1, .int (iz v1)), (2, .int (iz v2))] []) {C127 : Int × Int × Int × Int × ZS → Prop} (hC127 : ∀ (v1 : Int) (v2 : Int) (v3 : Int) (v4 : Int) (σ : ZS), C127 (v1, v2, v3, v4, σ) → Z Γ 0 0 σ [] 127 [(0, .ref (ad 0)), (1, .int (iz v1)), (2, .int (iz v2)), (3, .int (iz v3)), (4, .int (iz v4))] []) (v1 : Int) (v2 : Int) (v3 : Int) (v4 : Int) (t0 : Int) (t1 : Int) (σ : ZS) (h : wm_threes_175 C12 C127 post v1 v2 v3 v4 t0 t1 σ) : Z Γ 0 0 σ [] 175 [(0, .ref (ad 0)), (1, .int (iz v1)), (2, .int (iz v2)), (3, .int (iz v3)), (4, .int (iz v4))] [.int (iz t0), .int (iz t1), .ref (ad 0)] := by
  refine z_iload X 4 dX13_threes_175 rfl ?_
  refine clm_value X K rfl h (Nat.le_of_ble_eq_true rfl) dX13_threes_177 (fun σ1 h => ?_)
  refine z_iincK X K 4 (lv' := [(4, .int (iz (v4 + 1))), (0, .ref (ad 0)), (1, .int (iz v1)), (2, .int (iz v2)), (3, .int (iz v3))]) dX13_threes_180 rfl rfl rfl ?_
  refine z_goto (tgt := 127) X dX13_threes_183 rfl ?_
  exact z_sub [1, 2, 3, 4, 0] rfl (hC127 _ _ _ _ _ h)
set_option maxRecDepth 100000 in
theorem wkm_threes_127 {Γ : ZG} {l : Launch} {D : va_G} {cr : List vw_C} {ds : Nat → ClassId} {ad : Nat → Nat} {post : ZS → Prop} (X : ZX Γ cX13_threes RX13 4 66) (K : ZCap Γ l (ΘM D cr ds ad) 5 0 0) (hR : ZRetV Γ cX13_threes 0 0 post) {C12 : Int × Int × ZS → Prop} (hC12 : ∀ (v1 : Int) (v2 : Int) (σ : ZS), C12 (v1, v2, σ) → Z Γ 0 0 σ [] 12 [(0, .ref (ad 0)), (1, .int (iz v1)), (2, .int (iz v2))] []) : ∀ (N : Nat) (v1 : Int) (v2 : Int) (v3 : Int) (v4 : Int) (σ : ZS), zfix (wbm_threes_127 C12 post) N (v1, v2, v3, v4, σ) → Z Γ 0 0 σ [] 127 [(0, .ref (ad 0)), (1, .int (iz v1)), (2, .int (iz v2)), (3, .int (iz v3)), (4, .int (iz v4))] [] := by
  intro N
  induction N with
  | zero => intro v1 v2 v3 v4 σ h; exact False.elim h
  | succ N ih =>
    intro v1 v2 v3 v4 σ h
    have h : wbm_threes_127 C12 post (zfix (wbm_threes_127 C12 post) N) (v1, v2, v3, v4, σ) := h
    have hC127 := ih
    clear ih
    generalize zfix (wbm_threes_127 C12 post) N = C127 at h hC127
    dsimp only [wbm_threes_127] at h
    refine z_iload X 4 dX13_threes_127 rfl ?_
    refine z_iconst X 3 dX13_threes_129 ?_
    obtain ⟨i1, h⟩ := h
    refine z_icmp_ge X 186 dX13_threes_130 rfl i1 (by decide) (fun c2 => ?_) (fun c2 => ?_)
    · have h := h.1 c2
      refine z_goto (tgt := 12) X dX13_threes_186 rfl ?_
      exact z_sub [0, 1, 2] rfl (hC12 _ _ _ h)
    · have h := h.2 c2
      refine z_aload_n X 0 dX13_threes_133 rfl ?_
      refine gM_36 X K dX13_threes_134 ?_
      obtain ⟨i3, h⟩ := h
      refine z_if_eq X 186 dX13_threes_137 rfl i3 (fun c4 => ?_) (fun c4 => ?_)
      · have h := h.1 c4
        refine z_goto (tgt := 12) X dX13_threes_186 rfl ?_
        exact z_sub [0, 1, 2] rfl (hC12 _ _ _ h)
      · have h := h.2 c4
        refine z_aload_n X 0 dX13_threes_140 rfl ?_
        refine z_iload_n X 1 dX13_threes_141 rfl ?_
        refine z_iload X 4 dX13_threes_142 rfl ?_
        refine z_if_ne X 155 dX13_threes_144 rfl i1 (fun c5 => ?_) (fun c5 => ?_)
        · have h := h.1 c5
          refine z_iload X 4 dX13_threes_155 rfl ?_
          refine z_iconst X 1 dX13_threes_157 ?_
          refine z_icmp_ne X 171 dX13_threes_158 rfl i1 (by decide) (fun c6 => ?_) (fun c6 => ?_)
          · have h := h.1 c6
            refine z_iload_n X 3 dX13_threes_171 rfl ?_
            refine z_bipush X 40 dX13_threes_172 rfl ?_
            obtain ⟨i7, h⟩ := h
            obtain ⟨g8, h⟩ := h
            refine z_irem X dX13_threes_174 ⟨i7, (by decide), g8, (by decide)⟩ ?_
            exact z_sub [0, 1, 2, 3, 4] rfl (wkm_threes_175 X K hR hC12 hC127 _ _ _ _ _ _ _ h)
          · have h := h.2 c6
            refine z_iload_n X 3 dX13_threes_161 rfl ?_
            refine z_bipush X 40 dX13_threes_162 rfl ?_
            obtain ⟨i9, h⟩ := h
            obtain ⟨g10, h⟩ := h
            refine z_idiv X dX13_threes_164 ⟨i9, (by decide), g10, (by decide)⟩ ?_
            refine z_bipush X 40 dX13_threes_165 rfl ?_
            obtain ⟨i11, h⟩ := h
            obtain ⟨g12, h⟩ := h
            refine z_irem X dX13_threes_167 ⟨i11, (by decide), g12, (by decide)⟩ ?_
            refine z_goto (tgt := 175) X dX13_threes_168 rfl ?_
            exact z_sub [0, 1, 2, 3, 4] rfl (wkm_threes_175 X K hR hC12 hC127 _ _ _ _ _ _ _ h)
        · have h := h.2 c5
          refine z_iload_n X 3 dX13_threes_147 rfl ?_
          refine z_sipush X 1600 dX13_threes_148 rfl ?_
          obtain ⟨i13, h⟩ := h
          obtain ⟨g14, h⟩ := h
          refine z_idiv X dX13_threes_151 ⟨i13, (by decide), g14, (by decide)⟩ ?_
          refine z_goto (tgt := 175) X dX13_threes_152 rfl ?_
          exact z_sub [0, 1, 2, 3, 4] rfl (wkm_threes_175 X K hR hC12 hC127 _ _ _ _ _ _ _ h)
set_option maxRecDepth 100000 in
theorem wkm_threes_121 {Γ : ZG} {l : Launch} {D : va_G} {cr : List vw_C} {ds : Nat → ClassId} {ad : Nat → Nat} {post : ZS → Prop} (X : ZX Γ cX13_threes RX13 4 66) (K : ZCap Γ l (ΘM D cr ds ad) 5 0 0) (hR : ZRetV Γ cX13_threes 0 0 post) {C12 : Int × Int × ZS → Prop} (hC12 : ∀ (v1 : Int) (v2 : Int) (σ : ZS), C12 (v1, v2, σ) → Z Γ 0 0 σ [] 12 [(0, .ref (ad 0)), (1, .int (iz v1)), (2, .int (iz v2))] []) (v1 : Int) (v2 : Int) (v3 : Int) (t0 : Int) (σ : ZS) (h : wm_threes_121 C12 post v1 v2 v3 t0 σ) : Z Γ 0 0 σ [] 121 [(0, .ref (ad 0)), (1, .int (iz v1)), (2, .int (iz v2)), (3, .int (iz v3))] [.int (iz t0), .ref (ad 0)] := by
  obtain ⟨b2, h⟩ := h
  refine pM_36 X K b2 dX13_threes_121 (fun σ1 eσ1 => ?_)
  have h := h σ1 eσ1
  refine z_iconst X 0 dX13_threes_124 ?_
  refine z_istoreK X K (lv' := [(4, .int (iz 0)), (0, .ref (ad 0)), (1, .int (iz v1)), (2, .int (iz v2)), (3, .int (iz v3))]) dX13_threes_125 rfl rfl ?_
  obtain ⟨N, h⟩ := h
  exact z_sub [1, 2, 3, 4, 0] rfl (wkm_threes_127 X K hR hC12 N _ _ _ _ _ h)
set_option maxRecDepth 100000 in
theorem wkm_threes_120 {Γ : ZG} {l : Launch} {D : va_G} {cr : List vw_C} {ds : Nat → ClassId} {ad : Nat → Nat} {post : ZS → Prop} (X : ZX Γ cX13_threes RX13 4 66) (K : ZCap Γ l (ΘM D cr ds ad) 5 0 0) (hR : ZRetV Γ cX13_threes 0 0 post) {C12 : Int × Int × ZS → Prop} (hC12 : ∀ (v1 : Int) (v2 : Int) (σ : ZS), C12 (v1, v2, σ) → Z Γ 0 0 σ [] 12 [(0, .ref (ad 0)), (1, .int (iz v1)), (2, .int (iz v2))] []) (v1 : Int) (v2 : Int) (v3 : Int) (σ : ZS) (h : wm_threes_120 C12 post v1 v2 v3 σ) : Z Γ 0 0 σ [] 120 [(0, .ref (ad 0)), (1, .int (iz v1)), (2, .int (iz v2)), (3, .int (iz v3))] [.ref (ad 0)] := by
  refine z_iconst X 0 dX13_threes_120 ?_
  exact z_sub [0, 1, 2, 3] rfl (wkm_threes_121 X K hR hC12 _ _ _ _ _ h)
set_option maxRecDepth 100000 in
theorem wkm_threes_12 {Γ : ZG} {l : Launch} {D : va_G} {cr : List vw_C} {ds : Nat → ClassId} {ad : Nat → Nat} {post : ZS → Prop} (X : ZX Γ cX13_threes RX13 4 66) (K : ZCap Γ l (ΘM D cr ds ad) 5 0 0) (hR : ZRetV Γ cX13_threes 0 0 post) : ∀ (N : Nat) (v1 : Int) (v2 : Int) (σ : ZS), zfix (wbm_threes_12 post) N (v1, v2, σ) → Z Γ 0 0 σ [] 12 [(0, .ref (ad 0)), (1, .int (iz v1)), (2, .int (iz v2))] [] := by
  intro N
  induction N with
  | zero => intro v1 v2 σ h; exact False.elim h
  | succ N ih =>
    intro v1 v2 σ h
    have h : wbm_threes_12 post (zfix (wbm_threes_12 post) N) (v1, v2, σ) := h
    have hC12 := ih
    clear ih
    generalize zfix (wbm_threes_12 post) N = C12 at h hC12
    dsimp only [wbm_threes_12] at h
    refine z_iload_n X 2 dX13_threes_12 rfl ?_
    obtain ⟨i1, h⟩ := h
    refine z_if_eq X 189 dX13_threes_13 rfl i1 (fun c2 => ?_) (fun c2 => ?_)
    · have h := h.1 c2
      exact z_sub [0] rfl (wkm_threes_189 X K hR _ h)
    · have h := h.2 c2
      refine z_aload_n X 0 dX13_threes_16 rfl ?_
      refine gM_36 X K dX13_threes_17 ?_
      obtain ⟨i3, h⟩ := h
      refine z_if_eq X 189 dX13_threes_20 rfl i3 (fun c4 => ?_) (fun c4 => ?_)
      · have h := h.1 c4
        exact z_sub [0] rfl (wkm_threes_189 X K hR _ h)
      · have h := h.2 c4
        refine z_aload_n X 0 dX13_threes_23 rfl ?_
        refine gM_35 X K dX13_threes_24 ?_
        refine z_aload_n X 0 dX13_threes_27 rfl ?_
        refine gM_34 X K dX13_threes_28 ?_
        refine z_isub X dX13_threes_31 ?_
        refine z_iconst X 2 dX13_threes_32 ?_
        obtain ⟨i5, h⟩ := h
        refine z_icmp_lt X 189 dX13_threes_33 rfl i5 (by decide) (fun c6 => ?_) (fun c6 => ?_)
        · have h := h.1 c6
          exact z_sub [0] rfl (wkm_threes_189 X K hR _ h)
        · have h := h.2 c6
          refine z_aload_n X 0 dX13_threes_36 rfl ?_
          refine gM_20 X K dX13_threes_37 ?_
          refine z_aload_n X 0 dX13_threes_40 rfl ?_
          refine gM_34 X K dX13_threes_41 ?_
          obtain ⟨x7, h⟩ := h
          refine aM_13 X K dX13_threes_44 x7 ?_
          refine z_sipush X 254 dX13_threes_45 rfl ?_
          obtain ⟨i8, h⟩ := h
          refine z_icmp_ne X 66 dX13_threes_48 rfl i8 (by decide) (fun c9 => ?_) (fun c9 => ?_)
          · have h := h.1 c9
            refine z_sipush X 256 dX13_threes_66 rfl ?_
            refine z_aload_n X 0 dX13_threes_69 rfl ?_
            refine gM_20 X K dX13_threes_70 ?_
            refine z_aload_n X 0 dX13_threes_73 rfl ?_
            refine gM_34 X K dX13_threes_74 ?_
            refine aM_13 X K dX13_threes_77 x7 ?_
            refine z_imul X dX13_threes_78 ?_
            refine z_aload_n X 0 dX13_threes_79 rfl ?_
            refine gM_20 X K dX13_threes_80 ?_
            refine z_aload_n X 0 dX13_threes_83 rfl ?_
            refine gM_34 X K dX13_threes_84 ?_
            refine z_iconst X 1 dX13_threes_87 ?_
            refine z_iadd X dX13_threes_88 ?_
            obtain ⟨x10, h⟩ := h
            refine aM_13 X K dX13_threes_89 x10 ?_
            refine z_iadd X dX13_threes_90 ?_
            refine z_iconst X 1 dX13_threes_91 ?_
            refine z_isub X dX13_threes_92 ?_
            refine z_topi (fun v3_11 ev3_11 => ?_)
            have h := h v3_11 ev3_11
            refine z_istore_nK X K (lv' := [(3, .int (iz v3_11)), (0, .ref (ad 0)), (1, .int (iz v1)), (2, .int (iz v2))]) dX13_threes_93 rfl rfl ?_
            refine z_aload_n X 1 dX13_threes_94 rfl ?_
            refine z_dup X dX13_threes_95 rfl ?_
            refine gM_34 X K dX13_threes_96 ?_
            refine z_iconst X 2 dX13_threes_99 ?_
            refine z_iadd X dX13_threes_100 ?_
            refine pM_34 X K dX13_threes_101 (fun σ12 eσ12 => ?_)
            have h := h σ12 eσ12
            refine z_aload_n X 1 dX13_threes_104 rfl ?_
            refine z_iload_n X 0 dX13_threes_105 rfl ?_
            obtain ⟨i13, h⟩ := h
            refine z_if_lt X 120 dX13_threes_106 rfl i13 (fun c14 => ?_) (fun c14 => ?_)
            · have h := h.1 c14
              exact z_sub [1, 2, 3, 0] rfl (wkm_threes_120 X K hR hC12 _ _ _ _ h)
            · have h := h.2 c14
              refine z_iload_n X 0 dX13_threes_109 rfl ?_
              refine z_ldcw X 64000 q1514 rfl dX13_threes_110 ?_
              refine z_icmp_ge X 120 dX13_threes_113 rfl i13 (by decide) (fun c15 => ?_) (fun c15 => ?_)
              · have h := h.1 c15
                exact z_sub [1, 2, 3, 0] rfl (wkm_threes_120 X K hR hC12 _ _ _ _ h)
              · have h := h.2 c15
                refine z_iconst X 1 dX13_threes_116 ?_
                refine z_goto (tgt := 121) X dX13_threes_117 rfl ?_
                exact z_sub [1, 2, 3, 0] rfl (wkm_threes_121 X K hR hC12 _ _ _ _ _ h)
          · have h := h.2 c9
            refine z_aload_n X 0 dX13_threes_51 rfl ?_
            refine z_dup X dX13_threes_52 rfl ?_
            refine gM_34 X K dX13_threes_53 ?_
            refine z_iconst X 1 dX13_threes_56 ?_
            refine z_iadd X dX13_threes_57 ?_
            refine pM_34 X K dX13_threes_58 (fun σ16 eσ16 => ?_)
            have h := h σ16 eσ16
            refine z_iconst X 0 dX13_threes_61 ?_
            refine z_istore_nK X K (lv' := [(2, .int (iz 0)), (0, .ref (ad 0)), (1, .int (iz v1))]) dX13_threes_62 rfl rfl ?_
            refine z_goto (tgt := 12) X dX13_threes_63 rfl ?_
            exact z_sub [1, 2, 0] rfl (hC12 _ _ _ h)
set_option maxRecDepth 100000 in
theorem mt_threes (l : Launch) (D : va_G) (cr : List vw_C) (ds : Nat → ClassId) (ad : Nat → Nat) (a0 : Int) (σ : ZS) (post : ZS → Prop) (h : wm_threes a0 σ post) : ZMetV l (ΘM D cr ds ad) yX13_threes cX13_threes 5 4 66 0 0 [.ref (ad 0), .int (iz a0)] σ post := by
  refine ZMetV.of (by decide) (Nat.le_of_ble_eq_true rfl) (fun Γ X K hR => ?_)
  have X : ZX Γ cX13_threes RX13 4 66 := X
  refine z_sub [0, 1] (lv' := [(0, .ref (ad 0)), (1, .int (iz a0))]) rfl ?_
  refine z_aload_n X 0 dX13_threes_0 rfl ?_
  refine z_iconst X (-1) dX13_threes_1 ?_
  refine pM_37 X K dX13_threes_2 (fun σ1 eσ1 => ?_)
  have h := h σ1 eσ1
  refine z_aload_n X 0 dX13_threes_5 rfl ?_
  refine z_iconst X 0 dX13_threes_6 ?_
  refine pM_38 X K (Or.inl rfl) dX13_threes_7 (fun σ2 eσ2 => ?_)
  have h := h σ2 eσ2
  refine z_iconst X 1 dX13_threes_10 ?_
  refine z_istore_nK X K (lv' := [(2, .int (iz 1)), (0, .ref (ad 0)), (1, .int (iz a0))]) dX13_threes_11 rfl rfl ?_
  obtain ⟨N, h⟩ := h
  exact z_sub [1, 2, 0] rfl (wkm_threes_12 X K hR N _ _ _ h)
set_option maxRecDepth 100000 in
theorem clm_threes {Γ : ZG} {cc : ByteArray} {fr lo nL pc : Nat} {lv : List (Nat × Value)} {st : List Value} {l : Launch} {D : va_G} {cr : List vw_C} {ds : Nat → ClassId} {ad : Nat → Nat} {a0 : Int} {σ : ZS} {post : ZS → Prop} (X : ZX Γ cc RX13 fr lo) (K : ZCap Γ l (ΘM D cr ds ad) nL 0 0) (hrm : zroom 5 90 fr lo = true) (h : wm_threes a0 σ post) (hst : (st.map fun v => v.category).sum ≤ 8) (d : decode cc pc = .ok (.invokevirtual 253, 3)) (kk : ∀ (σ' : ZS), post σ' → Z Γ 0 0 σ' [] (pc + 3) lv (st)) : Z Γ 0 0 σ [] pc lv (.int (iz a0) :: .ref (ad 0) :: st) :=
  z_callVV' (C := RX13) (q0 := 0) X K (mt_threes l D cr ds ad a0 σ post h) (Nat.le_of_ble_eq_true rfl) rfl rfl rfl (lw_V q1510 q1512 qs60 q127 q1513) ⟨rfl, by decide, by decide, rfl⟩ (zroom_of hrm) ⟨Nat.zero_le _, Nat.zero_le _⟩ hst d rfl kk
/- X13_ascii -/
set_option maxRecDepth 100000 in
theorem wkm_ascii_294 {Γ : ZG} {l : Launch} {D : va_G} {cr : List vw_C} {ds : Nat → ClassId} {ad : Nat → Nat} {post : ZS → Prop} (X : ZX Γ cX13_ascii RX13 5 90) (K : ZCap Γ l (ΘM D cr ds ad) 2 0 0) (hR : ZRetV Γ cX13_ascii 0 0 post) (t0 : Int) (σ : ZS) (h : wm_ascii_294 post t0 σ) : Z Γ 0 0 σ [] 294 [] [.int (iz t0), .ref (ad 0)] := by
  refine clm_threes X K rfl h (Nat.le_of_ble_eq_true rfl) dX13_ascii_294 (fun σ1 h => ?_)
  refine z_goto (tgt := 333) X dX13_ascii_297 rfl ?_
  exact hR _ _ _ _ _ _ dX13_ascii_333 (Nat.le_refl 0) (Nat.le_refl 0) h
set_option maxRecDepth 100000 in
theorem wkm_ascii_269 {Γ : ZG} {l : Launch} {D : va_G} {cr : List vw_C} {ds : Nat → ClassId} {ad : Nat → Nat} {post : ZS → Prop} (X : ZX Γ cX13_ascii RX13 5 90) (K : ZCap Γ l (ΘM D cr ds ad) 2 0 0) (hR : ZRetV Γ cX13_ascii 0 0 post) (v1 : Int) (σ : ZS) (h : wm_ascii_269 post v1 σ) : Z Γ 0 0 σ [] 269 [(0, .ref (ad 0)), (1, .int (iz v1))] [] := by
  refine z_aload_n X 0 dX13_ascii_269 rfl ?_
  refine z_iload_n X 1 dX13_ascii_270 rfl ?_
  refine z_sipush X 230 dX13_ascii_271 rfl ?_
  obtain ⟨i1, h⟩ := h
  refine z_icmp_ne X 281 dX13_ascii_274 rfl i1 (by decide) (fun c2 => ?_) (fun c2 => ?_)
  · have h := h.1 c2
    refine z_iload_n X 1 dX13_ascii_281 rfl ?_
    refine z_sipush X 239 dX13_ascii_282 rfl ?_
    refine z_icmp_ne X 292 dX13_ascii_285 rfl i1 (by decide) (fun c3 => ?_) (fun c3 => ?_)
    · have h := h.1 c3
      refine z_bipush X 6 dX13_ascii_292 rfl ?_
      exact z_sub [] rfl (wkm_ascii_294 X K hR _ _ h)
    · have h := h.2 c3
      refine z_iconst X 5 dX13_ascii_288 ?_
      refine z_goto (tgt := 294) X dX13_ascii_289 rfl ?_
      exact z_sub [] rfl (wkm_ascii_294 X K hR _ _ h)
  · have h := h.2 c2
    refine z_iconst X 4 dX13_ascii_277 ?_
    refine z_goto (tgt := 294) X dX13_ascii_278 rfl ?_
    exact z_sub [] rfl (wkm_ascii_294 X K hR _ _ h)
set_option maxRecDepth 100000 in
theorem wkm_ascii_209 {Γ : ZG} {l : Launch} {D : va_G} {cr : List vw_C} {ds : Nat → ClassId} {ad : Nat → Nat} {post : ZS → Prop} (X : ZX Γ cX13_ascii RX13 5 90) (K : ZCap Γ l (ΘM D cr ds ad) 2 0 0) (hR : ZRetV Γ cX13_ascii 0 0 post) (t0 : Int) (σ : ZS) (h : wm_ascii_209 post t0 σ) : Z Γ 0 0 σ [] 209 [(0, .ref (ad 0))] [.int (iz t0), .ref (ad 0)] := by
  obtain ⟨b2, h⟩ := h
  refine pM_36 X K b2 dX13_ascii_209 (fun σ1 eσ1 => ?_)
  have h := h σ1 eσ1
  refine z_aload_n X 0 dX13_ascii_212 rfl ?_
  refine gM_36 X K dX13_ascii_213 ?_
  obtain ⟨i3, h⟩ := h
  refine z_if_eq X 333 dX13_ascii_216 rfl i3 (fun c4 => ?_) (fun c4 => ?_)
  · have h := h.1 c4
    exact hR _ _ _ _ _ _ dX13_ascii_333 (Nat.le_refl 0) (Nat.le_refl 0) h
  · have h := h.2 c4
    refine z_aload_n X 0 dX13_ascii_219 rfl ?_
    refine z_aload_n X 0 dX13_ascii_220 rfl ?_
    refine gM_20 X K dX13_ascii_221 ?_
    refine z_aload_n X 0 dX13_ascii_224 rfl ?_
    refine gM_34 X K dX13_ascii_225 ?_
    obtain ⟨x5, h⟩ := h
    refine aM_13 X K dX13_ascii_228 x5 ?_
    refine z_bipush X 127 dX13_ascii_229 rfl ?_
    refine z_iadd X dX13_ascii_231 ?_
    refine clm_tell X K rfl h (Nat.le_of_ble_eq_true rfl) dX13_ascii_232 (fun σ6 h => ?_)
    refine z_aload_n X 0 dX13_ascii_235 rfl ?_
    refine z_dup X dX13_ascii_236 rfl ?_
    refine gM_34 X K dX13_ascii_237 ?_
    refine z_iconst X 1 dX13_ascii_240 ?_
    refine z_iadd X dX13_ascii_241 ?_
    refine pM_34 X K dX13_ascii_242 (fun σ7 eσ7 => ?_)
    have h := h σ7 eσ7
    refine z_goto (tgt := 333) X dX13_ascii_245 rfl ?_
    exact hR _ _ _ _ _ _ dX13_ascii_333 (Nat.le_refl 0) (Nat.le_refl 0) h
set_option maxRecDepth 100000 in
theorem wkm_ascii_208 {Γ : ZG} {l : Launch} {D : va_G} {cr : List vw_C} {ds : Nat → ClassId} {ad : Nat → Nat} {post : ZS → Prop} (X : ZX Γ cX13_ascii RX13 5 90) (K : ZCap Γ l (ΘM D cr ds ad) 2 0 0) (hR : ZRetV Γ cX13_ascii 0 0 post) (σ : ZS) (h : wm_ascii_208 post σ) : Z Γ 0 0 σ [] 208 [(0, .ref (ad 0))] [.ref (ad 0)] := by
  refine z_iconst X 0 dX13_ascii_208 ?_
  exact z_sub [0] rfl (wkm_ascii_209 X K hR _ _ h)
set_option maxRecDepth 100000 in
theorem wkm_ascii_141 {Γ : ZG} {l : Launch} {D : va_G} {cr : List vw_C} {ds : Nat → ClassId} {ad : Nat → Nat} {post : ZS → Prop} (X : ZX Γ cX13_ascii RX13 5 90) (K : ZCap Γ l (ΘM D cr ds ad) 2 0 0) (hR : ZRetV Γ cX13_ascii 0 0 post) {C96 : ZS → Prop} (hC96 : ∀ (σ : ZS), C96 (σ) → Z Γ 0 0 σ [] 96 [(0, .ref (ad 0))] []) (t0 : Int) (σ : ZS) (h : wm_ascii_141 C96 post t0 σ) : Z Γ 0 0 σ [] 141 [(0, .ref (ad 0))] [.int (iz t0), .ref (ad 0)] := by
  obtain ⟨b2, h⟩ := h
  refine pM_36 X K b2 dX13_ascii_141 (fun σ1 eσ1 => ?_)
  have h := h σ1 eσ1
  refine z_aload_n X 0 dX13_ascii_144 rfl ?_
  refine z_dup X dX13_ascii_145 rfl ?_
  refine gM_34 X K dX13_ascii_146 ?_
  refine z_iconst X 1 dX13_ascii_149 ?_
  refine z_iadd X dX13_ascii_150 ?_
  refine pM_34 X K dX13_ascii_151 (fun σ3 eσ3 => ?_)
  have h := h σ3 eσ3
  refine z_goto (tgt := 96) X dX13_ascii_154 rfl ?_
  exact z_sub [0] rfl (hC96 _ h)
set_option maxRecDepth 100000 in
theorem wkm_ascii_140 {Γ : ZG} {l : Launch} {D : va_G} {cr : List vw_C} {ds : Nat → ClassId} {ad : Nat → Nat} {post : ZS → Prop} (X : ZX Γ cX13_ascii RX13 5 90) (K : ZCap Γ l (ΘM D cr ds ad) 2 0 0) (hR : ZRetV Γ cX13_ascii 0 0 post) {C96 : ZS → Prop} (hC96 : ∀ (σ : ZS), C96 (σ) → Z Γ 0 0 σ [] 96 [(0, .ref (ad 0))] []) (σ : ZS) (h : wm_ascii_140 C96 post σ) : Z Γ 0 0 σ [] 140 [(0, .ref (ad 0))] [.ref (ad 0)] := by
  refine z_iconst X 0 dX13_ascii_140 ?_
  exact z_sub [0] rfl (wkm_ascii_141 X K hR hC96 _ _ h)
set_option maxRecDepth 100000 in
theorem wkm_ascii_96 {Γ : ZG} {l : Launch} {D : va_G} {cr : List vw_C} {ds : Nat → ClassId} {ad : Nat → Nat} {post : ZS → Prop} (X : ZX Γ cX13_ascii RX13 5 90) (K : ZCap Γ l (ΘM D cr ds ad) 2 0 0) (hR : ZRetV Γ cX13_ascii 0 0 post) : ∀ (N : Nat) (σ : ZS), zfix (wbm_ascii_96 post) N (σ) → Z Γ 0 0 σ [] 96 [(0, .ref (ad 0))] [] := by
  intro N
  induction N with
  | zero => intro  σ h; exact False.elim h
  | succ N ih =>
    intro  σ h
    have h : wbm_ascii_96 post (zfix (wbm_ascii_96 post) N) (σ) := h
    have hC96 := ih
    clear ih
    generalize zfix (wbm_ascii_96 post) N = C96 at h hC96
    dsimp only [wbm_ascii_96] at h
    refine z_aload_n X 0 dX13_ascii_96 rfl ?_
    refine gM_34 X K dX13_ascii_97 ?_
    refine z_aload_n X 0 dX13_ascii_100 rfl ?_
    refine gM_35 X K dX13_ascii_101 ?_
    obtain ⟨i1, h⟩ := h
    obtain ⟨i2, h⟩ := h
    refine z_icmp_ge X 333 dX13_ascii_104 rfl i1 i2 (fun c3 => ?_) (fun c3 => ?_)
    · have h := h.1 c3
      exact hR _ _ _ _ _ _ dX13_ascii_333 (Nat.le_refl 0) (Nat.le_refl 0) h
    · have h := h.2 c3
      refine z_aload_n X 0 dX13_ascii_107 rfl ?_
      refine z_aload_n X 0 dX13_ascii_108 rfl ?_
      refine gM_36 X K dX13_ascii_109 ?_
      obtain ⟨i4, h⟩ := h
      refine z_if_eq X 140 dX13_ascii_112 rfl i4 (fun c5 => ?_) (fun c5 => ?_)
      · have h := h.1 c5
        exact z_sub [0] rfl (wkm_ascii_140 X K hR hC96 _ h)
      · have h := h.2 c5
        refine z_aload_n X 0 dX13_ascii_115 rfl ?_
        refine gM_20 X K dX13_ascii_116 ?_
        refine z_aload_n X 0 dX13_ascii_119 rfl ?_
        refine gM_34 X K dX13_ascii_120 ?_
        obtain ⟨x6, h⟩ := h
        refine aM_13 X K dX13_ascii_123 x6 ?_
        refine z_aload_n X 0 dX13_ascii_124 rfl ?_
        refine gM_34 X K dX13_ascii_125 ?_
        refine z_iconst X 1 dX13_ascii_128 ?_
        refine z_iadd X dX13_ascii_129 ?_
        refine clm_pad X K rfl h (Nat.le_of_ble_eq_true rfl) dX13_ascii_130 (fun r8 σ7 h => ?_)
        obtain ⟨i9, h⟩ := h
        obtain ⟨i10, h⟩ := h
        refine z_icmp_ne X 140 dX13_ascii_133 rfl i9 i10 (fun c11 => ?_) (fun c11 => ?_)
        · have h := h.1 c11
          exact z_sub [0] rfl (wkm_ascii_140 X K hR hC96 _ h)
        · have h := h.2 c11
          refine z_iconst X 1 dX13_ascii_136 ?_
          refine z_goto (tgt := 141) X dX13_ascii_137 rfl ?_
          exact z_sub [0] rfl (wkm_ascii_141 X K hR hC96 _ _ h)
set_option maxRecDepth 100000 in
theorem wkm_ascii_89 {Γ : ZG} {l : Launch} {D : va_G} {cr : List vw_C} {ds : Nat → ClassId} {ad : Nat → Nat} {post : ZS → Prop} (X : ZX Γ cX13_ascii RX13 5 90) (K : ZCap Γ l (ΘM D cr ds ad) 2 0 0) (hR : ZRetV Γ cX13_ascii 0 0 post) (v1 : Int) (σ : ZS) (h : wm_ascii_89 post v1 σ) : Z Γ 0 0 σ [] 89 [(0, .ref (ad 0)), (1, .int (iz v1))] [] := by
  refine z_iload_n X 1 dX13_ascii_89 rfl ?_
  refine z_sipush X 129 dX13_ascii_90 rfl ?_
  obtain ⟨i1, h⟩ := h
  refine z_icmp_ne X 157 dX13_ascii_93 rfl i1 (by decide) (fun c2 => ?_) (fun c2 => ?_)
  · have h := h.1 c2
    refine z_iload_n X 1 dX13_ascii_157 rfl ?_
    refine z_sipush X 235 dX13_ascii_158 rfl ?_
    refine z_icmp_ne X 248 dX13_ascii_161 rfl i1 (by decide) (fun c3 => ?_) (fun c3 => ?_)
    · have h := h.1 c3
      refine z_iload_n X 1 dX13_ascii_248 rfl ?_
      refine z_sipush X 230 dX13_ascii_249 rfl ?_
      refine z_icmp_eq X 269 dX13_ascii_252 rfl i1 (by decide) (fun c4 => ?_) (fun c4 => ?_)
      · have h := h.1 c4
        exact z_sub [0, 1] rfl (wkm_ascii_269 X K hR _ _ h)
      · have h := h.2 c4
        refine z_iload_n X 1 dX13_ascii_255 rfl ?_
        refine z_sipush X 239 dX13_ascii_256 rfl ?_
        refine z_icmp_eq X 269 dX13_ascii_259 rfl i1 (by decide) (fun c5 => ?_) (fun c5 => ?_)
        · have h := h.1 c5
          exact z_sub [0, 1] rfl (wkm_ascii_269 X K hR _ _ h)
        · have h := h.2 c5
          refine z_iload_n X 1 dX13_ascii_262 rfl ?_
          refine z_sipush X 238 dX13_ascii_263 rfl ?_
          refine z_icmp_ne X 300 dX13_ascii_266 rfl i1 (by decide) (fun c6 => ?_) (fun c6 => ?_)
          · have h := h.1 c6
            refine z_iload_n X 1 dX13_ascii_300 rfl ?_
            refine z_sipush X 240 dX13_ascii_301 rfl ?_
            refine z_icmp_ne X 314 dX13_ascii_304 rfl i1 (by decide) (fun c7 => ?_) (fun c7 => ?_)
            · have h := h.1 c7
              refine z_iload_n X 1 dX13_ascii_314 rfl ?_
              refine z_sipush X 231 dX13_ascii_315 rfl ?_
              refine z_icmp_ne X 328 dX13_ascii_318 rfl i1 (by decide) (fun c8 => ?_) (fun c8 => ?_)
              · have h := h.1 c8
                refine z_aload_n X 0 dX13_ascii_328 rfl ?_
                refine z_iconst X 0 dX13_ascii_329 ?_
                refine pM_36 X K (Or.inl rfl) dX13_ascii_330 (fun σ9 eσ9 => ?_)
                have h := h σ9 eσ9
                exact hR _ _ _ _ _ _ dX13_ascii_333 (Nat.le_refl 0) (Nat.le_refl 0) h
              · have h := h.2 c8
                refine z_aload_n X 0 dX13_ascii_321 rfl ?_
                refine clm_base X K rfl h (Nat.le_of_ble_eq_true rfl) dX13_ascii_322 (fun σ10 h => ?_)
                refine z_goto (tgt := 333) X dX13_ascii_325 rfl ?_
                exact hR _ _ _ _ _ _ dX13_ascii_333 (Nat.le_refl 0) (Nat.le_refl 0) h
            · have h := h.2 c7
              refine z_aload_n X 0 dX13_ascii_307 rfl ?_
              refine clm_sixes X K rfl h (Nat.le_of_ble_eq_true rfl) dX13_ascii_308 (fun σ11 h => ?_)
              refine z_goto (tgt := 333) X dX13_ascii_311 rfl ?_
              exact hR _ _ _ _ _ _ dX13_ascii_333 (Nat.le_refl 0) (Nat.le_refl 0) h
          · have h := h.2 c6
            exact z_sub [0, 1] rfl (wkm_ascii_269 X K hR _ _ h)
    · have h := h.2 c3
      refine z_aload_n X 0 dX13_ascii_164 rfl ?_
      refine z_aload_n X 0 dX13_ascii_165 rfl ?_
      refine gM_34 X K dX13_ascii_166 ?_
      refine z_aload_n X 0 dX13_ascii_169 rfl ?_
      refine gM_35 X K dX13_ascii_170 ?_
      obtain ⟨i12, h⟩ := h
      obtain ⟨i13, h⟩ := h
      refine z_icmp_ge X 208 dX13_ascii_173 rfl i12 i13 (fun c14 => ?_) (fun c14 => ?_)
      · have h := h.1 c14
        exact z_sub [0] rfl (wkm_ascii_208 X K hR _ h)
      · have h := h.2 c14
        refine z_aload_n X 0 dX13_ascii_176 rfl ?_
        refine gM_20 X K dX13_ascii_177 ?_
        refine z_aload_n X 0 dX13_ascii_180 rfl ?_
        refine gM_34 X K dX13_ascii_181 ?_
        obtain ⟨x15, h⟩ := h
        refine aM_13 X K dX13_ascii_184 x15 ?_
        refine z_iconst X 1 dX13_ascii_185 ?_
        obtain ⟨i16, h⟩ := h
        refine z_icmp_lt X 208 dX13_ascii_186 rfl i16 (by decide) (fun c17 => ?_) (fun c17 => ?_)
        · have h := h.1 c17
          exact z_sub [0] rfl (wkm_ascii_208 X K hR _ h)
        · have h := h.2 c17
          refine z_aload_n X 0 dX13_ascii_189 rfl ?_
          refine gM_20 X K dX13_ascii_190 ?_
          refine z_aload_n X 0 dX13_ascii_193 rfl ?_
          refine gM_34 X K dX13_ascii_194 ?_
          refine aM_13 X K dX13_ascii_197 x15 ?_
          refine z_sipush X 128 dX13_ascii_198 rfl ?_
          refine z_icmp_gt X 208 dX13_ascii_201 rfl i16 (by decide) (fun c18 => ?_) (fun c18 => ?_)
          · have h := h.1 c18
            exact z_sub [0] rfl (wkm_ascii_208 X K hR _ h)
          · have h := h.2 c18
            refine z_iconst X 1 dX13_ascii_204 ?_
            refine z_goto (tgt := 209) X dX13_ascii_205 rfl ?_
            exact z_sub [0] rfl (wkm_ascii_209 X K hR _ _ h)
  · have h := h.2 c2
    obtain ⟨N, h⟩ := h
    exact z_sub [0] rfl (wkm_ascii_96 X K hR N _ h)
set_option maxRecDepth 100000 in
theorem wkm_ascii_42 {Γ : ZG} {l : Launch} {D : va_G} {cr : List vw_C} {ds : Nat → ClassId} {ad : Nat → Nat} {post : ZS → Prop} (X : ZX Γ cX13_ascii RX13 5 90) (K : ZCap Γ l (ΘM D cr ds ad) 2 0 0) (hR : ZRetV Γ cX13_ascii 0 0 post) (v1 : Int) (σ : ZS) (h : wm_ascii_42 post v1 σ) : Z Γ 0 0 σ [] 42 [(0, .ref (ad 0)), (1, .int (iz v1))] [] := by
  refine z_iload_n X 1 dX13_ascii_42 rfl ?_
  refine z_sipush X 130 dX13_ascii_43 rfl ?_
  obtain ⟨i1, h⟩ := h
  refine z_icmp_lt X 89 dX13_ascii_46 rfl i1 (by decide) (fun c2 => ?_) (fun c2 => ?_)
  · have h := h.1 c2
    exact z_sub [0, 1] rfl (wkm_ascii_89 X K hR _ _ h)
  · have h := h.2 c2
    refine z_iload_n X 1 dX13_ascii_49 rfl ?_
    refine z_sipush X 229 dX13_ascii_50 rfl ?_
    refine z_icmp_gt X 89 dX13_ascii_53 rfl i1 (by decide) (fun c3 => ?_) (fun c3 => ?_)
    · have h := h.1 c3
      exact z_sub [0, 1] rfl (wkm_ascii_89 X K hR _ _ h)
    · have h := h.2 c3
      refine z_aload_n X 0 dX13_ascii_56 rfl ?_
      refine z_bipush X 48 dX13_ascii_57 rfl ?_
      refine z_iload_n X 1 dX13_ascii_59 rfl ?_
      refine z_sipush X 130 dX13_ascii_60 rfl ?_
      refine z_isub X dX13_ascii_63 ?_
      refine z_bipush X 10 dX13_ascii_64 rfl ?_
      obtain ⟨i4, h⟩ := h
      obtain ⟨g5, h⟩ := h
      refine z_idiv X dX13_ascii_66 ⟨i4, (by decide), g5, (by decide)⟩ ?_
      refine z_iadd X dX13_ascii_67 ?_
      refine clm_tell X K rfl h (Nat.le_of_ble_eq_true rfl) dX13_ascii_68 (fun σ6 h => ?_)
      refine z_aload_n X 0 dX13_ascii_71 rfl ?_
      refine z_bipush X 48 dX13_ascii_72 rfl ?_
      refine z_iload_n X 1 dX13_ascii_74 rfl ?_
      refine z_sipush X 130 dX13_ascii_75 rfl ?_
      refine z_isub X dX13_ascii_78 ?_
      refine z_bipush X 10 dX13_ascii_79 rfl ?_
      refine z_irem X dX13_ascii_81 ⟨i4, (by decide), g5, (by decide)⟩ ?_
      refine z_iadd X dX13_ascii_82 ?_
      refine clm_tell X K rfl h (Nat.le_of_ble_eq_true rfl) dX13_ascii_83 (fun σ7 h => ?_)
      refine z_goto (tgt := 333) X dX13_ascii_86 rfl ?_
      exact hR _ _ _ _ _ _ dX13_ascii_333 (Nat.le_refl 0) (Nat.le_refl 0) h
set_option maxRecDepth 100000 in
theorem mt_ascii (l : Launch) (D : va_G) (cr : List vw_C) (ds : Nat → ClassId) (ad : Nat → Nat) (σ : ZS) (post : ZS → Prop) (h : wm_ascii  σ post) : ZMetV l (ΘM D cr ds ad) yX13_ascii cX13_ascii 2 5 90 0 0 [.ref (ad 0)] σ post := by
  refine ZMetV.of (by decide) (Nat.le_of_ble_eq_true rfl) (fun Γ X K hR => ?_)
  have X : ZX Γ cX13_ascii RX13 5 90 := X
  refine z_sub [0] (lv' := [(0, .ref (ad 0))]) rfl ?_
  refine z_aload_n X 0 dX13_ascii_0 rfl ?_
  refine gM_20 X K dX13_ascii_1 ?_
  refine z_aload_n X 0 dX13_ascii_4 rfl ?_
  refine gM_34 X K dX13_ascii_5 ?_
  obtain ⟨x1, h⟩ := h
  refine aM_13 X K dX13_ascii_8 x1 ?_
  refine z_topi (fun v1_2 ev1_2 => ?_)
  have h := h v1_2 ev1_2
  refine z_istore_nK X K (lv' := [(1, .int (iz v1_2)), (0, .ref (ad 0))]) dX13_ascii_9 rfl rfl ?_
  refine z_aload_n X 1 dX13_ascii_10 rfl ?_
  refine z_dup X dX13_ascii_11 rfl ?_
  refine gM_34 X K dX13_ascii_12 ?_
  refine z_iconst X 1 dX13_ascii_15 ?_
  refine z_iadd X dX13_ascii_16 ?_
  refine pM_34 X K dX13_ascii_17 (fun σ3 eσ3 => ?_)
  have h := h σ3 eσ3
  refine z_iload_n X 0 dX13_ascii_20 rfl ?_
  refine z_iconst X 1 dX13_ascii_21 ?_
  obtain ⟨i4, h⟩ := h
  refine z_icmp_lt X 42 dX13_ascii_22 rfl i4 (by decide) (fun c5 => ?_) (fun c5 => ?_)
  · have h := h.1 c5
    exact z_sub [1, 0] rfl (wkm_ascii_42 X K hR _ _ h)
  · have h := h.2 c5
    refine z_iload_n X 0 dX13_ascii_25 rfl ?_
    refine z_sipush X 128 dX13_ascii_26 rfl ?_
    refine z_icmp_gt X 42 dX13_ascii_29 rfl i4 (by decide) (fun c6 => ?_) (fun c6 => ?_)
    · have h := h.1 c6
      exact z_sub [1, 0] rfl (wkm_ascii_42 X K hR _ _ h)
    · have h := h.2 c6
      refine z_aload_n X 1 dX13_ascii_32 rfl ?_
      refine z_iload_n X 0 dX13_ascii_33 rfl ?_
      refine z_iconst X 1 dX13_ascii_34 ?_
      refine z_isub X dX13_ascii_35 ?_
      refine clm_tell X K rfl h (Nat.le_of_ble_eq_true rfl) dX13_ascii_36 (fun σ7 h => ?_)
      refine z_goto (tgt := 333) X dX13_ascii_39 rfl ?_
      exact hR _ _ _ _ _ _ dX13_ascii_333 (Nat.le_refl 0) (Nat.le_refl 0) h
set_option maxRecDepth 100000 in
theorem clm_ascii {Γ : ZG} {cc : ByteArray} {fr lo nL pc : Nat} {lv : List (Nat × Value)} {st : List Value} {l : Launch} {D : va_G} {cr : List vw_C} {ds : Nat → ClassId} {ad : Nat → Nat} {σ : ZS} {post : ZS → Prop} (X : ZX Γ cc RX13 fr lo) (K : ZCap Γ l (ΘM D cr ds ad) nL 0 0) (hrm : zroom 6 111 fr lo = true) (h : wm_ascii  σ post) (hst : (st.map fun v => v.category).sum ≤ 8) (d : decode cc pc = .ok (.invokevirtual 244, 3)) (kk : ∀ (σ' : ZS), post σ' → Z Γ 0 0 σ' [] (pc + 3) lv (st)) : Z Γ 0 0 σ [] pc lv (.ref (ad 0) :: st) :=
  z_callVV' (C := RX13) (q0 := 0) X K (mt_ascii l D cr ds ad  σ post h) (Nat.le_of_ble_eq_true rfl) rfl rfl rfl (lw_V q1499 q1501 qs58 q127 q1502) ⟨rfl, by decide, by decide, rfl⟩ (zroom_of hrm) ⟨Nat.zero_le _, Nat.zero_le _⟩ hst d rfl kk
/- X13_readStream -/
set_option maxRecDepth 100000 in
theorem wkm_readStream_45 {Γ : ZG} {l : Launch} {D : va_G} {cr : List vw_C} {ds : Nat → ClassId} {ad : Nat → Nat} {post : Int → ZS → Prop} (X : ZX Γ cX13_readStream RX13 6 111) (K : ZCap Γ l (ΘM D cr ds ad) 2 0 0) (hR : ZRetI Γ cX13_readStream .int 0 0 post) (σ : ZS) (h : wm_readStream_45 post σ) : Z Γ 0 0 σ [] 45 [(0, .ref (ad 0))] [] := by
  refine z_aload_n X 0 dX13_readStream_45 rfl ?_
  refine gM_36 X K dX13_readStream_46 ?_
  obtain ⟨i1, h⟩ := h
  refine z_if_eq X 59 dX13_readStream_49 rfl i1 (fun c2 => ?_) (fun c2 => ?_)
  · have h := h.1 c2
    refine z_iconst X (-1) dX13_readStream_59 ?_
    exact hR _ _ _ _ _ _ _ dX13_readStream_60 rfl (Nat.le_refl 0) (Nat.le_refl 0) h
  · have h := h.2 c2
    refine z_aload_n X 0 dX13_readStream_52 rfl ?_
    refine gM_31 X K dX13_readStream_53 ?_
    refine z_goto (tgt := 60) X dX13_readStream_56 rfl ?_
    exact hR _ _ _ _ _ _ _ dX13_readStream_60 rfl (Nat.le_refl 0) (Nat.le_refl 0) h
set_option maxRecDepth 100000 in
theorem wkm_readStream_20 {Γ : ZG} {l : Launch} {D : va_G} {cr : List vw_C} {ds : Nat → ClassId} {ad : Nat → Nat} {post : Int → ZS → Prop} (X : ZX Γ cX13_readStream RX13 6 111) (K : ZCap Γ l (ΘM D cr ds ad) 2 0 0) (hR : ZRetI Γ cX13_readStream .int 0 0 post) : ∀ (N : Nat) (σ : ZS), zfix (wbm_readStream_20 post) N (σ) → Z Γ 0 0 σ [] 20 [(0, .ref (ad 0))] [] := by
  intro N
  induction N with
  | zero => intro  σ h; exact False.elim h
  | succ N ih =>
    intro  σ h
    have h : wbm_readStream_20 post (zfix (wbm_readStream_20 post) N) (σ) := h
    have hC20 := ih
    clear ih
    generalize zfix (wbm_readStream_20 post) N = C20 at h hC20
    dsimp only [wbm_readStream_20] at h
    refine z_aload_n X 0 dX13_readStream_20 rfl ?_
    refine gM_36 X K dX13_readStream_21 ?_
    obtain ⟨i1, h⟩ := h
    refine z_if_eq X 45 dX13_readStream_24 rfl i1 (fun c2 => ?_) (fun c2 => ?_)
    · have h := h.1 c2
      exact z_sub [0] rfl (wkm_readStream_45 X K hR _ h)
    · have h := h.2 c2
      refine z_aload_n X 0 dX13_readStream_27 rfl ?_
      refine gM_34 X K dX13_readStream_28 ?_
      refine z_aload_n X 0 dX13_readStream_31 rfl ?_
      refine gM_35 X K dX13_readStream_32 ?_
      obtain ⟨i3, h⟩ := h
      obtain ⟨i4, h⟩ := h
      refine z_icmp_ge X 45 dX13_readStream_35 rfl i3 i4 (fun c5 => ?_) (fun c5 => ?_)
      · have h := h.1 c5
        exact z_sub [0] rfl (wkm_readStream_45 X K hR _ h)
      · have h := h.2 c5
        refine z_aload_n X 0 dX13_readStream_38 rfl ?_
        refine clm_ascii X K rfl h (Nat.le_of_ble_eq_true rfl) dX13_readStream_39 (fun σ6 h => ?_)
        refine z_goto (tgt := 20) X dX13_readStream_42 rfl ?_
        exact z_sub [0] rfl (hC20 _ h)
set_option maxRecDepth 100000 in
theorem mt_readStream (l : Launch) (D : va_G) (cr : List vw_C) (ds : Nat → ClassId) (ad : Nat → Nat) (a0 : Int) (σ : ZS) (post : Int → ZS → Prop) (h : wm_readStream a0 σ post) : ZMetI l (ΘM D cr ds ad) yX13_readStream cX13_readStream 2 .int 6 111 0 0 [.ref (ad 0), .int (iz a0)] σ post := by
  refine ZMetI.of (by decide) (Nat.le_of_ble_eq_true rfl) (fun Γ X K hR => ?_)
  have X : ZX Γ cX13_readStream RX13 6 111 := X
  refine z_sub [0, 1] (lv' := [(0, .ref (ad 0)), (1, .int (iz a0))]) rfl ?_
  refine z_aload_n X 0 dX13_readStream_0 rfl ?_
  refine z_iconst X 0 dX13_readStream_1 ?_
  refine pM_34 X K dX13_readStream_2 (fun σ1 eσ1 => ?_)
  have h := h σ1 eσ1
  refine z_aload_n X 0 dX13_readStream_5 rfl ?_
  refine z_iload_n X 1 dX13_readStream_6 rfl ?_
  refine pM_35 X K dX13_readStream_7 (fun σ2 eσ2 => ?_)
  have h := h σ2 eσ2
  refine z_aload_n X 0 dX13_readStream_10 rfl ?_
  refine z_iconst X 0 dX13_readStream_11 ?_
  refine pM_31 X K dX13_readStream_12 (fun σ3 eσ3 => ?_)
  have h := h σ3 eσ3
  refine z_aload_n X 0 dX13_readStream_15 rfl ?_
  refine z_iconst X 1 dX13_readStream_16 ?_
  refine pM_36 X K (Or.inr rfl) dX13_readStream_17 (fun σ4 eσ4 => ?_)
  have h := h σ4 eσ4
  obtain ⟨N, h⟩ := h
  exact z_sub [0] rfl (wkm_readStream_20 X K hR N _ h)
set_option maxRecDepth 100000 in
theorem clm_readStream {Γ : ZG} {cc : ByteArray} {fr lo nL pc : Nat} {lv : List (Nat × Value)} {st : List Value} {l : Launch} {D : va_G} {cr : List vw_C} {ds : Nat → ClassId} {ad : Nat → Nat} {a0 : Int} {σ : ZS} {post : Int → ZS → Prop} (X : ZX Γ cc RX13 fr lo) (K : ZCap Γ l (ΘM D cr ds ad) nL 0 0) (hrm : zroom 7 132 fr lo = true) (h : wm_readStream a0 σ post) (hst : (st.map fun v => v.category).sum ≤ 8) (d : decode cc pc = .ok (.invokevirtual 285, 3)) (kk : ∀ (r : Int) (σ' : ZS), post r σ' → Z Γ 0 0 σ' [] (pc + 3) lv (.int (iz r) :: st)) : Z Γ 0 0 σ [] pc lv (.int (iz a0) :: .ref (ad 0) :: st) :=
  z_callVI' (C := RX13) (q0 := 0) X K (mt_readStream l D cr ds ad a0 σ post h) (Nat.le_of_ble_eq_true rfl) rfl rfl rfl (lw_V q1495 q1497 qs57 q127 q1498) ⟨rfl, by decide, by decide, rfl⟩ (zroom_of hrm) ⟨Nat.zero_le _, Nat.zero_le _⟩ hst d rfl kk
/- X13_stream -/
set_option maxRecDepth 100000 in
theorem wkm_stream_36 {Γ : ZG} {l : Launch} {D : va_G} {cr : List vw_C} {ds : Nat → ClassId} {ad : Nat → Nat} {post : Int → ZS → Prop} (X : ZX Γ cX13_stream RX13 7 132) (K : ZCap Γ l (ΘM D cr ds ad) 3 0 0) (hR : ZRetI Γ cX13_stream .int 0 0 post) : ∀ (N : Nat) (v2 : Int) (σ : ZS), zfix (wbm_stream_36 post) N (v2, σ) → Z Γ 0 0 σ [] 36 [(0, .ref (ad 0)), (2, .int (iz v2))] [] := by
  intro N
  induction N with
  | zero => intro v2 σ h; exact False.elim h
  | succ N ih =>
    intro v2 σ h
    have h : wbm_stream_36 post (zfix (wbm_stream_36 post) N) (v2, σ) := h
    have hC36 := ih
    clear ih
    generalize zfix (wbm_stream_36 post) N = C36 at h hC36
    dsimp only [wbm_stream_36] at h
    refine z_iload_n X 1 dX13_stream_36 rfl ?_
    refine z_aload_n X 0 dX13_stream_37 rfl ?_
    refine gM_11 X K dX13_stream_38 ?_
    obtain ⟨i1, h⟩ := h
    obtain ⟨i2, h⟩ := h
    refine z_icmp_ge X 62 dX13_stream_41 rfl i1 i2 (fun c3 => ?_) (fun c3 => ?_)
    · have h := h.1 c3
      refine z_aload_n X 0 dX13_stream_62 rfl ?_
      refine z_aload_n X 0 dX13_stream_63 rfl ?_
      refine gM_11 X K dX13_stream_64 ?_
      refine clm_readStream X K rfl h (Nat.le_of_ble_eq_true rfl) dX13_stream_67 (fun r5 σ4 h => ?_)
      refine z_istore_nK X K (lv' := [(2, .int (iz r5)), (0, .ref (ad 0))]) dX13_stream_70 rfl rfl ?_
      refine z_iload_n X 0 dX13_stream_71 rfl ?_
      obtain ⟨i6, h⟩ := h
      refine z_if_lt X 79 dX13_stream_72 rfl i6 (fun c7 => ?_) (fun c7 => ?_)
      · have h := h.1 c7
        refine z_iload_n X 0 dX13_stream_79 rfl ?_
        exact hR _ _ _ _ _ _ _ dX13_stream_80 rfl (Nat.le_refl 0) (Nat.le_refl 0) h
      · have h := h.2 c7
        refine z_aload_n X 1 dX13_stream_75 rfl ?_
        refine clm_keepRead X K rfl h (Nat.le_of_ble_eq_true rfl) dX13_stream_76 (fun σ8 h => ?_)
        refine z_iload_n X 0 dX13_stream_79 rfl ?_
        exact hR _ _ _ _ _ _ _ dX13_stream_80 rfl (Nat.le_refl 0) (Nat.le_refl 0) h
    · have h := h.2 c3
      refine z_aload_n X 0 dX13_stream_44 rfl ?_
      refine gM_20 X K dX13_stream_45 ?_
      refine z_iload_n X 1 dX13_stream_48 rfl ?_
      refine z_aload_n X 0 dX13_stream_49 rfl ?_
      refine gM_9 X K dX13_stream_50 ?_
      refine z_iload_n X 1 dX13_stream_53 rfl ?_
      obtain ⟨x9, h⟩ := h
      refine aM_9 X K dX13_stream_54 x9 ?_
      obtain ⟨x10, h⟩ := h
      refine sM_13 X K dX13_stream_55 x10 (fun σ11 eσ11 => ?_)
      have h := h σ11 eσ11
      refine z_iincK X K 1 (lv' := [(2, .int (iz (v2 + 1))), (0, .ref (ad 0))]) dX13_stream_56 rfl rfl rfl ?_
      refine z_goto (tgt := 36) X dX13_stream_59 rfl ?_
      exact z_sub [1, 0] rfl (hC36 _ _ h)
set_option maxRecDepth 100000 in
theorem mt_stream (l : Launch) (D : va_G) (cr : List vw_C) (ds : Nat → ClassId) (ad : Nat → Nat) (a0 : Int) (σ : ZS) (post : Int → ZS → Prop) (h : wm_stream a0 σ post) : ZMetI l (ΘM D cr ds ad) yX13_stream cX13_stream 3 .int 7 132 0 0 [.ref (ad 0), .int (iz a0)] σ post := by
  refine ZMetI.of (by decide) (Nat.le_of_ble_eq_true rfl) (fun Γ X K hR => ?_)
  have X : ZX Γ cX13_stream RX13 7 132 := X
  refine z_sub [0, 1] (lv' := [(0, .ref (ad 0)), (1, .int (iz a0))]) rfl ?_
  refine z_aload_n X 0 dX13_stream_0 rfl ?_
  refine z_iconst X 0 dX13_stream_1 ?_
  refine pM_0 X K dX13_stream_2 (fun σ1 eσ1 => ?_)
  have h := h σ1 eσ1
  refine z_aload_n X 0 dX13_stream_5 rfl ?_
  refine clm_takeTape X K rfl h (Nat.le_of_ble_eq_true rfl) dX13_stream_6 (fun σ2 h => ?_)
  refine z_iload_n X 1 dX13_stream_9 rfl ?_
  refine clm_isSymbol X K rfl h (Nat.le_of_ble_eq_true rfl) dX13_stream_10 (fun r4 σ3 h => ?_)
  obtain ⟨b4, h⟩ := h
  have h := h b4
  refine z_if_ne X 19 dX13_stream_13 rfl (InR_b b4) (fun c6 => ?_) (fun c6 => ?_)
  · have h := h.1 c6
    refine z_aload_n X 0 dX13_stream_19 rfl ?_
    refine gM_11 X K dX13_stream_20 ?_
    refine z_aload_n X 0 dX13_stream_23 rfl ?_
    refine z_iload_n X 1 dX13_stream_24 rfl ?_
    refine clm_dataOf X K rfl h (Nat.le_of_ble_eq_true rfl) dX13_stream_25 (fun r8 σ7 h => ?_)
    obtain ⟨i9, h⟩ := h
    obtain ⟨i10, h⟩ := h
    refine z_icmp_eq X 34 dX13_stream_28 rfl i9 i10 (fun c11 => ?_) (fun c11 => ?_)
    · have h := h.1 c11
      refine z_iconst X 0 dX13_stream_34 ?_
      refine z_istore_nK X K (lv' := [(2, .int (iz 0)), (0, .ref (ad 0)), (1, .int (iz a0))]) dX13_stream_35 rfl rfl ?_
      obtain ⟨N, h⟩ := h
      exact z_sub [1, 0] rfl (wkm_stream_36 X K hR N _ _ h)
    · have h := h.2 c11
      refine z_bipush X (-2) dX13_stream_31 rfl ?_
      exact hR _ _ _ _ _ _ _ dX13_stream_33 rfl (Nat.le_refl 0) (Nat.le_refl 0) h
  · have h := h.2 c6
    refine z_bipush X (-3) dX13_stream_16 rfl ?_
    exact hR _ _ _ _ _ _ _ dX13_stream_18 rfl (Nat.le_refl 0) (Nat.le_refl 0) h
/- X13_product -/
set_option maxRecDepth 100000 in
theorem mt_product (l : Launch) (D : va_G) (cr : List vw_C) (ds : Nat → ClassId) (ad : Nat → Nat) (a0 : Int) (a1 : Int) (σ : ZS) (post : Int → ZS → Prop) (h : wm_product a0 a1 σ post) : ZMetI l (ΘM D cr ds ad) yX13_product cX13_product 3 .int 1 0 0 0 [.ref (ad 0), .int (iz a0), .int (iz a1)] σ post := by
  refine ZMetI.of (by decide) (Nat.le_of_ble_eq_true rfl) (fun Γ X K hR => ?_)
  have X : ZX Γ cX13_product RX13 1 0 := X
  refine z_sub [0, 1, 2] (lv' := [(0, .ref (ad 0)), (1, .int (iz a0)), (2, .int (iz a1))]) rfl ?_
  refine z_iload_n X 1 dX13_product_0 rfl ?_
  obtain ⟨i1, h⟩ := h
  refine z_if_eq X 8 dX13_product_1 rfl i1 (fun c2 => ?_) (fun c2 => ?_)
  · have h := h.1 c2
    refine z_iconst X 0 dX13_product_8 ?_
    refine z_goto (tgt := 30) X dX13_product_9 rfl ?_
    exact hR _ _ _ _ _ _ _ dX13_product_30 rfl (Nat.le_refl 0) (Nat.le_refl 0) h
  · have h := h.2 c2
    refine z_iload_n X 2 dX13_product_4 rfl ?_
    obtain ⟨i3, h⟩ := h
    refine z_if_ne X 12 dX13_product_5 rfl i3 (fun c4 => ?_) (fun c4 => ?_)
    · have h := h.1 c4
      refine z_aload_n X 0 dX13_product_12 rfl ?_
      refine gM_7 X K dX13_product_13 ?_
      refine z_aload_n X 0 dX13_product_16 rfl ?_
      refine gM_8 X K dX13_product_17 ?_
      refine z_iload_n X 1 dX13_product_20 rfl ?_
      obtain ⟨x5, h⟩ := h
      refine aM_8 X K dX13_product_21 x5 ?_
      refine z_aload_n X 0 dX13_product_22 rfl ?_
      refine gM_8 X K dX13_product_23 ?_
      refine z_iload_n X 2 dX13_product_26 rfl ?_
      obtain ⟨x6, h⟩ := h
      refine aM_8 X K dX13_product_27 x6 ?_
      refine z_iadd X dX13_product_28 ?_
      obtain ⟨x7, h⟩ := h
      refine aM_7 X K dX13_product_29 x7 ?_
      exact hR _ _ _ _ _ _ _ dX13_product_30 rfl (Nat.le_refl 0) (Nat.le_refl 0) h
    · have h := h.2 c4
      refine z_iconst X 0 dX13_product_8 ?_
      refine z_goto (tgt := 30) X dX13_product_9 rfl ?_
      exact hR _ _ _ _ _ _ _ dX13_product_30 rfl (Nat.le_refl 0) (Nat.le_refl 0) h
set_option maxRecDepth 100000 in
theorem clm_product {Γ : ZG} {cc : ByteArray} {fr lo nL pc : Nat} {lv : List (Nat × Value)} {st : List Value} {l : Launch} {D : va_G} {cr : List vw_C} {ds : Nat → ClassId} {ad : Nat → Nat} {a0 : Int} {a1 : Int} {σ : ZS} {post : Int → ZS → Prop} (X : ZX Γ cc RX13 fr lo) (K : ZCap Γ l (ΘM D cr ds ad) nL 0 0) (hrm : zroom 2 22 fr lo = true) (h : wm_product a0 a1 σ post) (hst : (st.map fun v => v.category).sum ≤ 8) (d : decode cc pc = .ok (.invokevirtual 204, 3)) (kk : ∀ (r : Int) (σ' : ZS), post r σ' → Z Γ 0 0 σ' [] (pc + 3) lv (.int (iz r) :: st)) : Z Γ 0 0 σ [] pc lv (.int (iz a1) :: .int (iz a0) :: .ref (ad 0) :: st) :=
  z_callVI' (C := RX13) (q0 := 0) X K (mt_product l D cr ds ad a0 a1 σ post h) (Nat.le_of_ble_eq_true rfl) rfl rfl rfl (lw_V q1555 q1557 qs70 q127 q1558) ⟨rfl, by decide, by decide, rfl⟩ (zroom_of hrm) ⟨Nat.zero_le _, Nat.zero_le _⟩ hst d rfl kk
/- X13_places -/
set_option maxRecDepth 100000 in
theorem wkm_places_35 {Γ : ZG} {l : Launch} {D : va_G} {cr : List vw_C} {ds : Nat → ClassId} {ad : Nat → Nat} {post : Int → ZS → Prop} (X : ZX Γ cX13_places RX13 2 22) (K : ZCap Γ l (ΘM D cr ds ad) 7 0 0) (hR : ZRetI Γ cX13_places .boolean 0 0 (fun r σ => (r = 0 ∨ r = 1) ∧ post r σ)) {C4 : Int × Int × Int × ZS → Prop} (hC4 : ∀ (v1 : Int) (v2 : Int) (v3 : Int) (σ : ZS), C4 (v1, v2, v3, σ) → Z Γ 0 0 σ [] 4 [(0, .ref (ad 0)), (1, .int (iz v1)), (2, .int (iz v2)), (3, .int (iz v3))] []) : ∀ (N : Nat) (v1 : Int) (v2 : Int) (v3 : Int) (v4 : Int) (v5 : Int) (v6 : Int) (σ : ZS), zfix (wbm_places_35 C4 post) N (v1, v2, v3, v4, v5, v6, σ) → Z Γ 0 0 σ [] 35 [(0, .ref (ad 0)), (1, .int (iz v1)), (2, .int (iz v2)), (3, .int (iz v3)), (4, .int (iz v4)), (5, .int (iz v5)), (6, .int (iz v6))] [] := by
  intro N
  induction N with
  | zero => intro v1 v2 v3 v4 v5 v6 σ h; exact False.elim h
  | succ N ih =>
    intro v1 v2 v3 v4 v5 v6 σ h
    have h : wbm_places_35 C4 post (zfix (wbm_places_35 C4 post) N) (v1, v2, v3, v4, v5, v6, σ) := h
    have hC35 := ih
    clear ih
    generalize zfix (wbm_places_35 C4 post) N = C35 at h hC35
    dsimp only [wbm_places_35] at h
    refine z_iload X 6 dX13_places_35 rfl ?_
    obtain ⟨i1, h⟩ := h
    refine z_if_lt X 64 dX13_places_37 rfl i1 (fun c2 => ?_) (fun c2 => ?_)
    · have h := h.1 c2
      refine z_iload X 5 dX13_places_64 rfl ?_
      obtain ⟨i3, h⟩ := h
      refine z_if_ne X 84 dX13_places_66 rfl i3 (fun c4 => ?_) (fun c4 => ?_)
      · have h := h.1 c4
        refine z_iincK X K 3 (lv' := [(3, .int (iz (v3 + 1))), (0, .ref (ad 0)), (1, .int (iz v1)), (2, .int (iz v2)), (4, .int (iz v4)), (5, .int (iz v5)), (6, .int (iz v6))]) dX13_places_84 rfl rfl rfl ?_
        refine z_goto (tgt := 4) X dX13_places_87 rfl ?_
        exact z_sub [1, 2, 3, 0] rfl (hC4 _ _ _ _ h)
      · have h := h.2 c4
        refine z_iload_n X 2 dX13_places_69 rfl ?_
        refine z_iload_n X 1 dX13_places_70 rfl ?_
        obtain ⟨i5, h⟩ := h
        obtain ⟨i6, h⟩ := h
        refine z_icmp_ge X 84 dX13_places_71 rfl i5 i6 (fun c7 => ?_) (fun c7 => ?_)
        · have h := h.1 c7
          refine z_iincK X K 3 (lv' := [(3, .int (iz (v3 + 1))), (0, .ref (ad 0)), (1, .int (iz v1)), (2, .int (iz v2)), (4, .int (iz v4)), (5, .int (iz v5)), (6, .int (iz v6))]) dX13_places_84 rfl rfl rfl ?_
          refine z_goto (tgt := 4) X dX13_places_87 rfl ?_
          exact z_sub [1, 2, 3, 0] rfl (hC4 _ _ _ _ h)
        · have h := h.2 c7
          refine z_aload_n X 0 dX13_places_74 rfl ?_
          refine gM_27 X K dX13_places_75 ?_
          refine z_iload_n X 2 dX13_places_78 rfl ?_
          refine z_iload_n X 3 dX13_places_79 rfl ?_
          obtain ⟨x8, h⟩ := h
          refine sM_19 X K dX13_places_80 x8 (fun σ9 eσ9 => ?_)
          have h := h σ9 eσ9
          refine z_iincK X K 2 (lv' := [(2, .int (iz (v2 + 1))), (0, .ref (ad 0)), (1, .int (iz v1)), (3, .int (iz v3)), (4, .int (iz v4)), (5, .int (iz v5)), (6, .int (iz v6))]) dX13_places_81 rfl rfl rfl ?_
          refine z_iincK X K 3 (lv' := [(3, .int (iz (v3 + 1))), (2, .int (iz (v2 + 1))), (0, .ref (ad 0)), (1, .int (iz v1)), (4, .int (iz v4)), (5, .int (iz v5)), (6, .int (iz v6))]) dX13_places_84 rfl rfl rfl ?_
          refine z_goto (tgt := 4) X dX13_places_87 rfl ?_
          exact z_sub [2, 3, 1, 0] rfl (hC4 _ _ _ _ h)
    · have h := h.2 c2
      refine z_aload_n X 0 dX13_places_40 rfl ?_
      refine z_iload X 5 dX13_places_41 rfl ?_
      refine z_iload X 4 dX13_places_43 rfl ?_
      refine clm_product X K rfl h (Nat.le_of_ble_eq_true rfl) dX13_places_45 (fun r11 σ10 h => ?_)
      refine z_aload_n X 0 dX13_places_48 rfl ?_
      refine gM_28 X K dX13_places_49 ?_
      refine z_iload X 6 dX13_places_52 rfl ?_
      obtain ⟨x12, h⟩ := h
      refine aM_20 X K dX13_places_54 x12 ?_
      refine z_ixor X dX13_places_55 ?_
      refine z_topi (fun v5_13 ev5_13 => ?_)
      have h := h v5_13 ev5_13
      refine z_istoreK X K (lv' := [(5, .int (iz v5_13)), (0, .ref (ad 0)), (1, .int (iz v1)), (2, .int (iz v2)), (3, .int (iz v3)), (4, .int (iz v4)), (6, .int (iz v6))]) dX13_places_56 rfl rfl ?_
      refine z_iincK X K 6 (lv' := [(6, .int (iz (v6 + (-1)))), (5, .int (iz v5_13)), (0, .ref (ad 0)), (1, .int (iz v1)), (2, .int (iz v2)), (3, .int (iz v3)), (4, .int (iz v4))]) dX13_places_58 rfl rfl rfl ?_
      refine z_goto (tgt := 35) X dX13_places_61 rfl ?_
      exact z_sub [2, 3, 4, 5, 6, 1, 0] rfl (hC35 _ _ _ _ _ _ _ h)
set_option maxRecDepth 100000 in
theorem wkm_places_4 {Γ : ZG} {l : Launch} {D : va_G} {cr : List vw_C} {ds : Nat → ClassId} {ad : Nat → Nat} {post : Int → ZS → Prop} (X : ZX Γ cX13_places RX13 2 22) (K : ZCap Γ l (ΘM D cr ds ad) 7 0 0) (hR : ZRetI Γ cX13_places .boolean 0 0 (fun r σ => (r = 0 ∨ r = 1) ∧ post r σ)) : ∀ (N : Nat) (v1 : Int) (v2 : Int) (v3 : Int) (σ : ZS), zfix (wbm_places_4 post) N (v1, v2, v3, σ) → Z Γ 0 0 σ [] 4 [(0, .ref (ad 0)), (1, .int (iz v1)), (2, .int (iz v2)), (3, .int (iz v3))] [] := by
  intro N
  induction N with
  | zero => intro v1 v2 v3 σ h; exact False.elim h
  | succ N ih =>
    intro v1 v2 v3 σ h
    have h : wbm_places_4 post (zfix (wbm_places_4 post) N) (v1, v2, v3, σ) := h
    have hC4 := ih
    clear ih
    generalize zfix (wbm_places_4 post) N = C4 at h hC4
    dsimp only [wbm_places_4] at h
    refine z_iload_n X 3 dX13_places_4 rfl ?_
    refine z_aload_n X 0 dX13_places_5 rfl ?_
    refine gM_25 X K dX13_places_6 ?_
    obtain ⟨i1, h⟩ := h
    obtain ⟨i2, h⟩ := h
    refine z_icmp_ge X 90 dX13_places_9 rfl i1 i2 (fun c3 => ?_) (fun c3 => ?_)
    · have h := h.1 c3
      refine z_iload_n X 2 dX13_places_90 rfl ?_
      refine z_iload_n X 1 dX13_places_91 rfl ?_
      obtain ⟨i4, h⟩ := h
      obtain ⟨i5, h⟩ := h
      refine z_icmp_ne X 99 dX13_places_92 rfl i4 i5 (fun c6 => ?_) (fun c6 => ?_)
      · have h := h.1 c6
        refine z_iconst X 0 dX13_places_99 ?_
        exact hR _ _ _ _ _ _ _ dX13_places_100 (z_nb (Or.inl rfl)) (Nat.le_refl 0) (Nat.le_refl 0) ⟨(Or.inl rfl), h⟩
      · have h := h.2 c6
        refine z_iconst X 1 dX13_places_95 ?_
        refine z_goto (tgt := 100) X dX13_places_96 rfl ?_
        exact hR _ _ _ _ _ _ _ dX13_places_100 (z_nb (Or.inr rfl)) (Nat.le_refl 0) (Nat.le_refl 0) ⟨(Or.inr rfl), h⟩
    · have h := h.2 c3
      refine z_aload_n X 0 dX13_places_12 rfl ?_
      refine gM_7 X K dX13_places_13 ?_
      refine z_aload_n X 0 dX13_places_16 rfl ?_
      refine gM_25 X K dX13_places_17 ?_
      refine z_iconst X 1 dX13_places_20 ?_
      refine z_isub X dX13_places_21 ?_
      refine z_iload_n X 3 dX13_places_22 rfl ?_
      refine z_isub X dX13_places_23 ?_
      obtain ⟨x7, h⟩ := h
      refine aM_7 X K dX13_places_24 x7 ?_
      refine z_topi (fun v4_8 ev4_8 => ?_)
      have h := h v4_8 ev4_8
      refine z_istoreK X K (lv' := [(4, .int (iz v4_8)), (0, .ref (ad 0)), (1, .int (iz v1)), (2, .int (iz v2)), (3, .int (iz v3))]) dX13_places_25 rfl rfl ?_
      refine z_iconst X 1 dX13_places_27 ?_
      refine z_istoreK X K (lv' := [(5, .int (iz 1)), (4, .int (iz v4_8)), (0, .ref (ad 0)), (1, .int (iz v1)), (2, .int (iz v2)), (3, .int (iz v3))]) dX13_places_28 rfl rfl ?_
      refine z_iload_n X 3 dX13_places_30 rfl ?_
      refine z_iconst X 1 dX13_places_31 ?_
      refine z_isub X dX13_places_32 ?_
      refine z_istoreK X K (lv' := [(6, .int (iz (v1 - 1))), (5, .int (iz 1)), (4, .int (iz v4_8)), (0, .ref (ad 0)), (1, .int (iz v1)), (2, .int (iz v2)), (3, .int (iz v3))]) dX13_places_33 rfl rfl ?_
      obtain ⟨N, h⟩ := h
      exact z_sub [3, 4, 5, 6, 2, 1, 0] rfl (wkm_places_35 X K hR hC4 N _ _ _ _ _ _ _ h)
set_option maxRecDepth 100000 in
theorem mt_places (l : Launch) (D : va_G) (cr : List vw_C) (ds : Nat → ClassId) (ad : Nat → Nat) (a0 : Int) (σ : ZS) (post : Int → ZS → Prop) (h : wm_places a0 σ post) : ZMetI l (ΘM D cr ds ad) yX13_places cX13_places 7 .boolean 2 22 0 0 [.ref (ad 0), .int (iz a0)] σ (fun r σ => (r = 0 ∨ r = 1) ∧ post r σ) := by
  refine ZMetI.of (by decide) (Nat.le_of_ble_eq_true rfl) (fun Γ X K hR => ?_)
  have X : ZX Γ cX13_places RX13 2 22 := X
  refine z_sub [0, 1] (lv' := [(0, .ref (ad 0)), (1, .int (iz a0))]) rfl ?_
  refine z_iconst X 0 dX13_places_0 ?_
  refine z_istore_nK X K (lv' := [(2, .int (iz 0)), (0, .ref (ad 0)), (1, .int (iz a0))]) dX13_places_1 rfl rfl ?_
  refine z_iconst X 0 dX13_places_2 ?_
  refine z_istore_nK X K (lv' := [(3, .int (iz 0)), (2, .int (iz 0)), (0, .ref (ad 0)), (1, .int (iz a0))]) dX13_places_3 rfl rfl ?_
  obtain ⟨N, h⟩ := h
  exact z_sub [2, 3, 1, 0] rfl (wkm_places_4 X K hR N _ _ _ _ h)
set_option maxRecDepth 100000 in
theorem clm_places {Γ : ZG} {cc : ByteArray} {fr lo nL pc : Nat} {lv : List (Nat × Value)} {st : List Value} {l : Launch} {D : va_G} {cr : List vw_C} {ds : Nat → ClassId} {ad : Nat → Nat} {a0 : Int} {σ : ZS} {post : Int → ZS → Prop} (X : ZX Γ cc RX13 fr lo) (K : ZCap Γ l (ΘM D cr ds ad) nL 0 0) (hrm : zroom 3 48 fr lo = true) (h : wm_places a0 σ post) (hst : (st.map fun v => v.category).sum ≤ 8) (d : decode cc pc = .ok (.invokevirtual 220, 3)) (kk : ∀ (r : Int) (σ' : ZS), (fun r σ => (r = 0 ∨ r = 1) ∧ post r σ) r σ' → Z Γ 0 0 σ' [] (pc + 3) lv (.int (iz r) :: st)) : Z Γ 0 0 σ [] pc lv (.int (iz a0) :: .ref (ad 0) :: st) :=
  z_callVI' (C := RX13) (q0 := 0) X K (mt_places l D cr ds ad a0 σ post h) (Nat.le_of_ble_eq_true rfl) rfl rfl rfl (lw_V q1567 q1569 qs73 q127 q1570) ⟨rfl, by decide, by decide, rfl⟩ (zroom_of hrm) ⟨Nat.zero_le _, Nat.zero_le _⟩ hst d rfl kk
/- X13_quotient -/
set_option maxRecDepth 100000 in
theorem mt_quotient (l : Launch) (D : va_G) (cr : List vw_C) (ds : Nat → ClassId) (ad : Nat → Nat) (a0 : Int) (a1 : Int) (σ : ZS) (post : Int → ZS → Prop) (h : wm_quotient a0 a1 σ post) : ZMetI l (ΘM D cr ds ad) yX13_quotient cX13_quotient 3 .int 1 0 0 0 [.ref (ad 0), .int (iz a0), .int (iz a1)] σ post := by
  refine ZMetI.of (by decide) (Nat.le_of_ble_eq_true rfl) (fun Γ X K hR => ?_)
  have X : ZX Γ cX13_quotient RX13 1 0 := X
  refine z_sub [0, 1, 2] (lv' := [(0, .ref (ad 0)), (1, .int (iz a0)), (2, .int (iz a1))]) rfl ?_
  refine z_iload_n X 1 dX13_quotient_0 rfl ?_
  obtain ⟨i1, h⟩ := h
  refine z_if_ne X 8 dX13_quotient_1 rfl i1 (fun c2 => ?_) (fun c2 => ?_)
  · have h := h.1 c2
    refine z_aload_n X 0 dX13_quotient_8 rfl ?_
    refine gM_7 X K dX13_quotient_9 ?_
    refine z_aload_n X 0 dX13_quotient_12 rfl ?_
    refine gM_8 X K dX13_quotient_13 ?_
    refine z_iload_n X 1 dX13_quotient_16 rfl ?_
    obtain ⟨x3, h⟩ := h
    refine aM_8 X K dX13_quotient_17 x3 ?_
    refine z_sipush X 255 dX13_quotient_18 rfl ?_
    refine z_iadd X dX13_quotient_21 ?_
    refine z_aload_n X 0 dX13_quotient_22 rfl ?_
    refine gM_8 X K dX13_quotient_23 ?_
    refine z_iload_n X 2 dX13_quotient_26 rfl ?_
    obtain ⟨x4, h⟩ := h
    refine aM_8 X K dX13_quotient_27 x4 ?_
    refine z_isub X dX13_quotient_28 ?_
    obtain ⟨x5, h⟩ := h
    refine aM_7 X K dX13_quotient_29 x5 ?_
    exact hR _ _ _ _ _ _ _ dX13_quotient_30 rfl (Nat.le_refl 0) (Nat.le_refl 0) h
  · have h := h.2 c2
    refine z_iconst X 0 dX13_quotient_4 ?_
    refine z_goto (tgt := 30) X dX13_quotient_5 rfl ?_
    exact hR _ _ _ _ _ _ _ dX13_quotient_30 rfl (Nat.le_refl 0) (Nat.le_refl 0) h
set_option maxRecDepth 100000 in
theorem clm_quotient {Γ : ZG} {cc : ByteArray} {fr lo nL pc : Nat} {lv : List (Nat × Value)} {st : List Value} {l : Launch} {D : va_G} {cr : List vw_C} {ds : Nat → ClassId} {ad : Nat → Nat} {a0 : Int} {a1 : Int} {σ : ZS} {post : Int → ZS → Prop} (X : ZX Γ cc RX13 fr lo) (K : ZCap Γ l (ΘM D cr ds ad) nL 0 0) (hrm : zroom 2 22 fr lo = true) (h : wm_quotient a0 a1 σ post) (hst : (st.map fun v => v.category).sum ≤ 8) (d : decode cc pc = .ok (.invokevirtual 211, 3)) (kk : ∀ (r : Int) (σ' : ZS), post r σ' → Z Γ 0 0 σ' [] (pc + 3) lv (.int (iz r) :: st)) : Z Γ 0 0 σ [] pc lv (.int (iz a1) :: .int (iz a0) :: .ref (ad 0) :: st) :=
  z_callVI' (C := RX13) (q0 := 0) X K (mt_quotient l D cr ds ad a0 a1 σ post h) (Nat.le_of_ble_eq_true rfl) rfl rfl rfl (lw_V q1563 q1565 qs72 q127 q1566) ⟨rfl, by decide, by decide, rfl⟩ (zroom_of hrm) ⟨Nat.zero_le _, Nat.zero_le _⟩ hst d rfl kk
/- X13_solve -/
set_option maxRecDepth 100000 in
theorem wkm_solve_276 {Γ : ZG} {l : Launch} {D : va_G} {cr : List vw_C} {ds : Nat → ClassId} {ad : Nat → Nat} {post : Int → ZS → Prop} (X : ZX Γ cX13_solve RX13 2 22) (K : ZCap Γ l (ΘM D cr ds ad) 9 0 0) (hR : ZRetI Γ cX13_solve .boolean 0 0 (fun r σ => (r = 0 ∨ r = 1) ∧ post r σ)) : ∀ (N : Nat) (v1 : Int) (v2 : Int) (v3 : Int) (σ : ZS), zfix (wbm_solve_276 post) N (v1, v2, v3, σ) → Z Γ 0 0 σ [] 276 [(0, .ref (ad 0)), (1, .int (iz v1)), (2, .int (iz v2)), (3, .int (iz v3))] [] := by
  intro N
  induction N with
  | zero => intro v1 v2 v3 σ h; exact False.elim h
  | succ N ih =>
    intro v1 v2 v3 σ h
    have h : wbm_solve_276 post (zfix (wbm_solve_276 post) N) (v1, v2, v3, σ) := h
    have hC276 := ih
    clear ih
    generalize zfix (wbm_solve_276 post) N = C276 at h hC276
    dsimp only [wbm_solve_276] at h
    refine z_iload_n X 3 dX13_solve_276 rfl ?_
    refine z_iload_n X 1 dX13_solve_277 rfl ?_
    obtain ⟨i1, h⟩ := h
    obtain ⟨i2, h⟩ := h
    refine z_icmp_ge X 303 dX13_solve_278 rfl i1 i2 (fun c3 => ?_) (fun c3 => ?_)
    · have h := h.1 c3
      refine z_iconst X 1 dX13_solve_303 ?_
      exact hR _ _ _ _ _ _ _ dX13_solve_304 (z_nb (Or.inr rfl)) (Nat.le_refl 0) (Nat.le_refl 0) ⟨(Or.inr rfl), h⟩
    · have h := h.2 c3
      refine z_aload_n X 0 dX13_solve_281 rfl ?_
      refine gM_28 X K dX13_solve_282 ?_
      refine z_iload_n X 3 dX13_solve_285 rfl ?_
      refine z_aload_n X 0 dX13_solve_286 rfl ?_
      refine gM_26 X K dX13_solve_287 ?_
      refine z_iload_n X 2 dX13_solve_290 rfl ?_
      refine z_iload_n X 3 dX13_solve_291 rfl ?_
      refine z_imul X dX13_solve_292 ?_
      refine z_iload_n X 1 dX13_solve_293 rfl ?_
      refine z_iadd X dX13_solve_294 ?_
      obtain ⟨x4, h⟩ := h
      refine aM_18 X K dX13_solve_295 x4 ?_
      obtain ⟨x5, h⟩ := h
      refine sM_20 X K dX13_solve_296 x5 (fun σ6 eσ6 => ?_)
      have h := h σ6 eσ6
      refine z_iincK X K 3 (lv' := [(3, .int (iz (v3 + 1))), (0, .ref (ad 0)), (1, .int (iz v1)), (2, .int (iz v2))]) dX13_solve_297 rfl rfl rfl ?_
      refine z_goto (tgt := 276) X dX13_solve_300 rfl ?_
      exact z_sub [1, 2, 3, 0] rfl (hC276 _ _ _ _ h)
set_option maxRecDepth 100000 in
theorem wkm_solve_203 {Γ : ZG} {l : Launch} {D : va_G} {cr : List vw_C} {ds : Nat → ClassId} {ad : Nat → Nat} {post : Int → ZS → Prop} (X : ZX Γ cX13_solve RX13 2 22) (K : ZCap Γ l (ΘM D cr ds ad) 9 0 0) (hR : ZRetI Γ cX13_solve .boolean 0 0 (fun r σ => (r = 0 ∨ r = 1) ∧ post r σ)) {C6 : Int × Int × Int × ZS → Prop} (hC6 : ∀ (v1 : Int) (v2 : Int) (v3 : Int) (σ : ZS), C6 (v1, v2, v3, σ) → Z Γ 0 0 σ [] 6 [(0, .ref (ad 0)), (1, .int (iz v1)), (2, .int (iz v2)), (3, .int (iz v3))] []) {C171 : Int × Int × Int × Int × ZS → Prop} (hC171 : ∀ (v1 : Int) (v2 : Int) (v3 : Int) (v6 : Int) (σ : ZS), C171 (v1, v2, v3, v6, σ) → Z Γ 0 0 σ [] 171 [(0, .ref (ad 0)), (1, .int (iz v1)), (2, .int (iz v2)), (3, .int (iz v3)), (6, .int (iz v6))] []) : ∀ (N : Nat) (v1 : Int) (v2 : Int) (v3 : Int) (v6 : Int) (v7 : Int) (v8 : Int) (σ : ZS), zfix (wbm_solve_203 C6 C171 post) N (v1, v2, v3, v6, v7, v8, σ) → Z Γ 0 0 σ [] 203 [(0, .ref (ad 0)), (1, .int (iz v1)), (2, .int (iz v2)), (3, .int (iz v3)), (6, .int (iz v6)), (7, .int (iz v7)), (8, .int (iz v8))] [] := by
  intro N
  induction N with
  | zero => intro v1 v2 v3 v6 v7 v8 σ h; exact False.elim h
  | succ N ih =>
    intro v1 v2 v3 v6 v7 v8 σ h
    have h : wbm_solve_203 C6 C171 post (zfix (wbm_solve_203 C6 C171 post) N) (v1, v2, v3, v6, v7, v8, σ) := h
    have hC203 := ih
    clear ih
    generalize zfix (wbm_solve_203 C6 C171 post) N = C203 at h hC203
    dsimp only [wbm_solve_203] at h
    refine z_iload X 6 dX13_solve_203 rfl ?_
    refine z_iload_n X 2 dX13_solve_205 rfl ?_
    obtain ⟨i1, h⟩ := h
    obtain ⟨i2, h⟩ := h
    refine z_icmp_ge X 262 dX13_solve_206 rfl i1 i2 (fun c3 => ?_) (fun c3 => ?_)
    · have h := h.1 c3
      refine z_iincK X K 4 (lv' := [(6, .int (iz (v6 + 1))), (0, .ref (ad 0)), (1, .int (iz v1)), (2, .int (iz v2)), (3, .int (iz v3)), (7, .int (iz v7)), (8, .int (iz v8))]) dX13_solve_262 rfl rfl rfl ?_
      refine z_goto (tgt := 171) X dX13_solve_265 rfl ?_
      exact z_sub [1, 2, 3, 4, 0] rfl (hC171 _ _ _ _ _ h)
    · have h := h.2 c3
      refine z_iload X 5 dX13_solve_209 rfl ?_
      obtain ⟨i4, h⟩ := h
      refine z_if_le X 262 dX13_solve_211 rfl i4 (fun c5 => ?_) (fun c5 => ?_)
      · have h := h.1 c5
        refine z_iincK X K 4 (lv' := [(6, .int (iz (v6 + 1))), (0, .ref (ad 0)), (1, .int (iz v1)), (2, .int (iz v2)), (3, .int (iz v3)), (7, .int (iz v7)), (8, .int (iz v8))]) dX13_solve_262 rfl rfl rfl ?_
        refine z_goto (tgt := 171) X dX13_solve_265 rfl ?_
        exact z_sub [1, 2, 3, 4, 0] rfl (hC171 _ _ _ _ _ h)
      · have h := h.2 c5
        refine z_aload_n X 0 dX13_solve_214 rfl ?_
        refine gM_26 X K dX13_solve_215 ?_
        refine z_iload_n X 2 dX13_solve_218 rfl ?_
        refine z_iload X 4 dX13_solve_219 rfl ?_
        refine z_imul X dX13_solve_221 ?_
        refine z_iload X 6 dX13_solve_222 rfl ?_
        refine z_iadd X dX13_solve_224 ?_
        refine z_aload_n X 0 dX13_solve_225 rfl ?_
        refine gM_26 X K dX13_solve_226 ?_
        refine z_iload_n X 2 dX13_solve_229 rfl ?_
        refine z_iload X 4 dX13_solve_230 rfl ?_
        refine z_imul X dX13_solve_232 ?_
        refine z_iload X 6 dX13_solve_233 rfl ?_
        refine z_iadd X dX13_solve_235 ?_
        obtain ⟨x6, h⟩ := h
        refine aM_18 X K dX13_solve_236 x6 ?_
        refine z_aload_n X 0 dX13_solve_237 rfl ?_
        refine z_iload X 5 dX13_solve_238 rfl ?_
        refine z_aload_n X 0 dX13_solve_240 rfl ?_
        refine gM_26 X K dX13_solve_241 ?_
        refine z_iload_n X 2 dX13_solve_244 rfl ?_
        refine z_iload_n X 3 dX13_solve_245 rfl ?_
        refine z_imul X dX13_solve_246 ?_
        refine z_iload X 6 dX13_solve_247 rfl ?_
        refine z_iadd X dX13_solve_249 ?_
        obtain ⟨x7, h⟩ := h
        refine aM_18 X K dX13_solve_250 x7 ?_
        refine clm_product X K rfl h (Nat.le_of_ble_eq_true rfl) dX13_solve_251 (fun r9 σ8 h => ?_)
        refine z_ixor X dX13_solve_254 ?_
        refine sM_18 X K dX13_solve_255 x6 (fun σ10 eσ10 => ?_)
        have h := h σ10 eσ10
        refine z_iincK X K 6 (lv' := [(8, .int (iz (v8 + 1))), (0, .ref (ad 0)), (1, .int (iz v1)), (2, .int (iz v2)), (3, .int (iz v3)), (6, .int (iz v6)), (7, .int (iz v7))]) dX13_solve_256 rfl rfl rfl ?_
        refine z_goto (tgt := 203) X dX13_solve_259 rfl ?_
        exact z_sub [1, 2, 3, 4, 5, 6, 0] rfl (hC203 _ _ _ _ _ _ _ h)
set_option maxRecDepth 100000 in
theorem wkm_solve_198 {Γ : ZG} {l : Launch} {D : va_G} {cr : List vw_C} {ds : Nat → ClassId} {ad : Nat → Nat} {post : Int → ZS → Prop} (X : ZX Γ cX13_solve RX13 2 22) (K : ZCap Γ l (ΘM D cr ds ad) 9 0 0) (hR : ZRetI Γ cX13_solve .boolean 0 0 (fun r σ => (r = 0 ∨ r = 1) ∧ post r σ)) {C6 : Int × Int × Int × ZS → Prop} (hC6 : ∀ (v1 : Int) (v2 : Int) (v3 : Int) (σ : ZS), C6 (v1, v2, v3, σ) → Z Γ 0 0 σ [] 6 [(0, .ref (ad 0)), (1, .int (iz v1)), (2, .int (iz v2)), (3, .int (iz v3))] []) {C171 : Int × Int × Int × Int × ZS → Prop} (hC171 : ∀ (v1 : Int) (v2 : Int) (v3 : Int) (v6 : Int) (σ : ZS), C171 (v1, v2, v3, v6, σ) → Z Γ 0 0 σ [] 171 [(0, .ref (ad 0)), (1, .int (iz v1)), (2, .int (iz v2)), (3, .int (iz v3)), (6, .int (iz v6))] []) (v1 : Int) (v2 : Int) (v3 : Int) (v6 : Int) (t0 : Int) (σ : ZS) (h : wm_solve_198 C6 C171 post v1 v2 v3 v6 t0 σ) : Z Γ 0 0 σ [] 198 [(0, .ref (ad 0)), (1, .int (iz v1)), (2, .int (iz v2)), (3, .int (iz v3)), (6, .int (iz v6))] [.int (iz t0)] := by
  refine z_istoreK X K (lv' := [(7, .int (iz t0)), (0, .ref (ad 0)), (1, .int (iz v1)), (2, .int (iz v2)), (3, .int (iz v3)), (6, .int (iz v6))]) dX13_solve_198 rfl rfl ?_
  refine z_iload_n X 4 dX13_solve_200 rfl ?_
  refine z_istoreK X K (lv' := [(8, .int (iz v3)), (7, .int (iz t0)), (0, .ref (ad 0)), (1, .int (iz v1)), (2, .int (iz v2)), (3, .int (iz v3)), (6, .int (iz v6))]) dX13_solve_201 rfl rfl ?_
  obtain ⟨N, h⟩ := h
  exact z_sub [2, 3, 4, 5, 6, 1, 0] rfl (wkm_solve_203 X K hR hC6 hC171 N _ _ _ _ _ _ _ h)
set_option maxRecDepth 100000 in
theorem wkm_solve_171 {Γ : ZG} {l : Launch} {D : va_G} {cr : List vw_C} {ds : Nat → ClassId} {ad : Nat → Nat} {post : Int → ZS → Prop} (X : ZX Γ cX13_solve RX13 2 22) (K : ZCap Γ l (ΘM D cr ds ad) 9 0 0) (hR : ZRetI Γ cX13_solve .boolean 0 0 (fun r σ => (r = 0 ∨ r = 1) ∧ post r σ)) {C6 : Int × Int × Int × ZS → Prop} (hC6 : ∀ (v1 : Int) (v2 : Int) (v3 : Int) (σ : ZS), C6 (v1, v2, v3, σ) → Z Γ 0 0 σ [] 6 [(0, .ref (ad 0)), (1, .int (iz v1)), (2, .int (iz v2)), (3, .int (iz v3))] []) : ∀ (N : Nat) (v1 : Int) (v2 : Int) (v3 : Int) (v6 : Int) (σ : ZS), zfix (wbm_solve_171 C6 post) N (v1, v2, v3, v6, σ) → Z Γ 0 0 σ [] 171 [(0, .ref (ad 0)), (1, .int (iz v1)), (2, .int (iz v2)), (3, .int (iz v3)), (6, .int (iz v6))] [] := by
  intro N
  induction N with
  | zero => intro v1 v2 v3 v6 σ h; exact False.elim h
  | succ N ih =>
    intro v1 v2 v3 v6 σ h
    have h : wbm_solve_171 C6 post (zfix (wbm_solve_171 C6 post) N) (v1, v2, v3, v6, σ) := h
    have hC171 := ih
    clear ih
    generalize zfix (wbm_solve_171 C6 post) N = C171 at h hC171
    dsimp only [wbm_solve_171] at h
    refine z_iload X 4 dX13_solve_171 rfl ?_
    refine z_iload_n X 1 dX13_solve_173 rfl ?_
    obtain ⟨i1, h⟩ := h
    obtain ⟨i2, h⟩ := h
    refine z_icmp_ge X 268 dX13_solve_174 rfl i1 i2 (fun c3 => ?_) (fun c3 => ?_)
    · have h := h.1 c3
      refine z_iincK X K 3 (lv' := [(3, .int (iz (v3 + 1))), (0, .ref (ad 0)), (1, .int (iz v1)), (2, .int (iz v2)), (6, .int (iz v6))]) dX13_solve_268 rfl rfl rfl ?_
      refine z_goto (tgt := 6) X dX13_solve_271 rfl ?_
      exact z_sub [1, 2, 3, 0] rfl (hC6 _ _ _ _ h)
    · have h := h.2 c3
      refine z_iload X 4 dX13_solve_177 rfl ?_
      refine z_iload_n X 3 dX13_solve_179 rfl ?_
      obtain ⟨i4, h⟩ := h
      refine z_icmp_ne X 187 dX13_solve_180 rfl i1 i4 (fun c5 => ?_) (fun c5 => ?_)
      · have h := h.1 c5
        refine z_aload_n X 0 dX13_solve_187 rfl ?_
        refine gM_26 X K dX13_solve_188 ?_
        refine z_iload_n X 2 dX13_solve_191 rfl ?_
        refine z_iload X 4 dX13_solve_192 rfl ?_
        refine z_imul X dX13_solve_194 ?_
        refine z_iload_n X 3 dX13_solve_195 rfl ?_
        refine z_iadd X dX13_solve_196 ?_
        obtain ⟨x6, h⟩ := h
        refine aM_18 X K dX13_solve_197 x6 ?_
        exact z_sub [0, 1, 2, 3, 4] rfl (wkm_solve_198 X K hR hC6 hC171 _ _ _ _ _ _ h)
      · have h := h.2 c5
        refine z_iconst X 0 dX13_solve_183 ?_
        refine z_goto (tgt := 198) X dX13_solve_184 rfl ?_
        exact z_sub [0, 1, 2, 3, 4] rfl (wkm_solve_198 X K hR hC6 hC171 _ _ _ _ _ _ h)
set_option maxRecDepth 100000 in
theorem wkm_solve_128 {Γ : ZG} {l : Launch} {D : va_G} {cr : List vw_C} {ds : Nat → ClassId} {ad : Nat → Nat} {post : Int → ZS → Prop} (X : ZX Γ cX13_solve RX13 2 22) (K : ZCap Γ l (ΘM D cr ds ad) 9 0 0) (hR : ZRetI Γ cX13_solve .boolean 0 0 (fun r σ => (r = 0 ∨ r = 1) ∧ post r σ)) {C6 : Int × Int × Int × ZS → Prop} (hC6 : ∀ (v1 : Int) (v2 : Int) (v3 : Int) (σ : ZS), C6 (v1, v2, v3, σ) → Z Γ 0 0 σ [] 6 [(0, .ref (ad 0)), (1, .int (iz v1)), (2, .int (iz v2)), (3, .int (iz v3))] []) : ∀ (N : Nat) (v1 : Int) (v2 : Int) (v3 : Int) (v5 : Int) (v6 : Int) (σ : ZS), zfix (wbm_solve_128 C6 post) N (v1, v2, v3, v5, v6, σ) → Z Γ 0 0 σ [] 128 [(0, .ref (ad 0)), (1, .int (iz v1)), (2, .int (iz v2)), (3, .int (iz v3)), (5, .int (iz v5)), (6, .int (iz v6))] [] := by
  intro N
  induction N with
  | zero => intro v1 v2 v3 v5 v6 σ h; exact False.elim h
  | succ N ih =>
    intro v1 v2 v3 v5 v6 σ h
    have h : wbm_solve_128 C6 post (zfix (wbm_solve_128 C6 post) N) (v1, v2, v3, v5, v6, σ) := h
    have hC128 := ih
    clear ih
    generalize zfix (wbm_solve_128 C6 post) N = C128 at h hC128
    dsimp only [wbm_solve_128] at h
    refine z_iload X 5 dX13_solve_128 rfl ?_
    refine z_iload_n X 2 dX13_solve_130 rfl ?_
    obtain ⟨i1, h⟩ := h
    obtain ⟨i2, h⟩ := h
    refine z_icmp_ge X 168 dX13_solve_131 rfl i1 i2 (fun c3 => ?_) (fun c3 => ?_)
    · have h := h.1 c3
      refine z_iconst X 0 dX13_solve_168 ?_
      refine z_istoreK X K (lv' := [(6, .int (iz 0)), (0, .ref (ad 0)), (1, .int (iz v1)), (2, .int (iz v2)), (3, .int (iz v3)), (5, .int (iz v5))]) dX13_solve_169 rfl rfl ?_
      obtain ⟨N, h⟩ := h
      exact z_sub [1, 2, 3, 4, 0] rfl (wkm_solve_171 X K hR hC6 N _ _ _ _ _ h)
    · have h := h.2 c3
      refine z_aload_n X 0 dX13_solve_134 rfl ?_
      refine gM_26 X K dX13_solve_135 ?_
      refine z_iload_n X 2 dX13_solve_138 rfl ?_
      refine z_iload_n X 3 dX13_solve_139 rfl ?_
      refine z_imul X dX13_solve_140 ?_
      refine z_iload X 5 dX13_solve_141 rfl ?_
      refine z_iadd X dX13_solve_143 ?_
      refine z_aload_n X 0 dX13_solve_144 rfl ?_
      refine z_aload_n X 0 dX13_solve_145 rfl ?_
      refine gM_26 X K dX13_solve_146 ?_
      refine z_iload_n X 2 dX13_solve_149 rfl ?_
      refine z_iload_n X 3 dX13_solve_150 rfl ?_
      refine z_imul X dX13_solve_151 ?_
      refine z_iload X 5 dX13_solve_152 rfl ?_
      refine z_iadd X dX13_solve_154 ?_
      obtain ⟨x4, h⟩ := h
      refine aM_18 X K dX13_solve_155 x4 ?_
      refine z_iload X 4 dX13_solve_156 rfl ?_
      refine clm_quotient X K rfl h (Nat.le_of_ble_eq_true rfl) dX13_solve_158 (fun r6 σ5 h => ?_)
      refine sM_18 X K dX13_solve_161 x4 (fun σ7 eσ7 => ?_)
      have h := h σ7 eσ7
      refine z_iincK X K 5 (lv' := [(6, .int (iz (v6 + 1))), (0, .ref (ad 0)), (1, .int (iz v1)), (2, .int (iz v2)), (3, .int (iz v3)), (5, .int (iz v5))]) dX13_solve_162 rfl rfl rfl ?_
      refine z_goto (tgt := 128) X dX13_solve_165 rfl ?_
      exact z_sub [1, 2, 3, 4, 5, 0] rfl (hC128 _ _ _ _ _ _ h)
set_option maxRecDepth 100000 in
theorem wkm_solve_51 {Γ : ZG} {l : Launch} {D : va_G} {cr : List vw_C} {ds : Nat → ClassId} {ad : Nat → Nat} {post : Int → ZS → Prop} (X : ZX Γ cX13_solve RX13 2 22) (K : ZCap Γ l (ΘM D cr ds ad) 9 0 0) (hR : ZRetI Γ cX13_solve .boolean 0 0 (fun r σ => (r = 0 ∨ r = 1) ∧ post r σ)) {C6 : Int × Int × Int × ZS → Prop} (hC6 : ∀ (v1 : Int) (v2 : Int) (v3 : Int) (σ : ZS), C6 (v1, v2, v3, σ) → Z Γ 0 0 σ [] 6 [(0, .ref (ad 0)), (1, .int (iz v1)), (2, .int (iz v2)), (3, .int (iz v3))] []) : ∀ (N : Nat) (v1 : Int) (v2 : Int) (v3 : Int) (v4 : Int) (v5 : Int) (σ : ZS), zfix (wbm_solve_51 C6 post) N (v1, v2, v3, v4, v5, σ) → Z Γ 0 0 σ [] 51 [(0, .ref (ad 0)), (1, .int (iz v1)), (2, .int (iz v2)), (3, .int (iz v3)), (4, .int (iz v4)), (5, .int (iz v5))] [] := by
  intro N
  induction N with
  | zero => intro v1 v2 v3 v4 v5 σ h; exact False.elim h
  | succ N ih =>
    intro v1 v2 v3 v4 v5 σ h
    have h : wbm_solve_51 C6 post (zfix (wbm_solve_51 C6 post) N) (v1, v2, v3, v4, v5, σ) := h
    have hC51 := ih
    clear ih
    generalize zfix (wbm_solve_51 C6 post) N = C51 at h hC51
    dsimp only [wbm_solve_51] at h
    refine z_iload X 5 dX13_solve_51 rfl ?_
    refine z_iload_n X 2 dX13_solve_53 rfl ?_
    obtain ⟨i1, h⟩ := h
    obtain ⟨i2, h⟩ := h
    refine z_icmp_ge X 113 dX13_solve_54 rfl i1 i2 (fun c3 => ?_) (fun c3 => ?_)
    · have h := h.1 c3
      refine z_aload_n X 0 dX13_solve_113 rfl ?_
      refine gM_26 X K dX13_solve_114 ?_
      refine z_iload_n X 2 dX13_solve_117 rfl ?_
      refine z_iload_n X 3 dX13_solve_118 rfl ?_
      refine z_imul X dX13_solve_119 ?_
      refine z_iload_n X 3 dX13_solve_120 rfl ?_
      refine z_iadd X dX13_solve_121 ?_
      obtain ⟨x4, h⟩ := h
      refine aM_18 X K dX13_solve_122 x4 ?_
      refine z_topi (fun v5_5 ev5_5 => ?_)
      have h := h v5_5 ev5_5
      refine z_istoreK X K (lv' := [(5, .int (iz v5_5)), (0, .ref (ad 0)), (1, .int (iz v1)), (2, .int (iz v2)), (3, .int (iz v3)), (4, .int (iz v4))]) dX13_solve_123 rfl rfl ?_
      refine z_iload_n X 4 dX13_solve_125 rfl ?_
      refine z_istoreK X K (lv' := [(6, .int (iz v3)), (5, .int (iz v5_5)), (0, .ref (ad 0)), (1, .int (iz v1)), (2, .int (iz v2)), (3, .int (iz v3)), (4, .int (iz v4))]) dX13_solve_126 rfl rfl ?_
      obtain ⟨N, h⟩ := h
      exact z_sub [2, 3, 4, 5, 1, 0] rfl (wkm_solve_128 X K hR hC6 N _ _ _ _ _ _ h)
    · have h := h.2 c3
      refine z_aload_n X 0 dX13_solve_57 rfl ?_
      refine gM_26 X K dX13_solve_58 ?_
      refine z_iload_n X 2 dX13_solve_61 rfl ?_
      refine z_iload X 4 dX13_solve_62 rfl ?_
      refine z_imul X dX13_solve_64 ?_
      refine z_iload X 5 dX13_solve_65 rfl ?_
      refine z_iadd X dX13_solve_67 ?_
      obtain ⟨x6, h⟩ := h
      refine aM_18 X K dX13_solve_68 x6 ?_
      refine z_topi (fun v6_7 ev6_7 => ?_)
      have h := h v6_7 ev6_7
      refine z_istoreK X K (lv' := [(6, .int (iz v6_7)), (0, .ref (ad 0)), (1, .int (iz v1)), (2, .int (iz v2)), (3, .int (iz v3)), (4, .int (iz v4)), (5, .int (iz v5))]) dX13_solve_69 rfl rfl ?_
      refine z_aload_n X 1 dX13_solve_71 rfl ?_
      refine gM_26 X K dX13_solve_72 ?_
      refine z_iload_n X 3 dX13_solve_75 rfl ?_
      refine z_iload X 5 dX13_solve_76 rfl ?_
      refine z_imul X dX13_solve_78 ?_
      refine z_iload X 6 dX13_solve_79 rfl ?_
      refine z_iadd X dX13_solve_81 ?_
      refine z_aload_n X 1 dX13_solve_82 rfl ?_
      refine gM_26 X K dX13_solve_83 ?_
      refine z_iload_n X 3 dX13_solve_86 rfl ?_
      refine z_iload_n X 4 dX13_solve_87 rfl ?_
      refine z_imul X dX13_solve_88 ?_
      refine z_iload X 6 dX13_solve_89 rfl ?_
      refine z_iadd X dX13_solve_91 ?_
      obtain ⟨x8, h⟩ := h
      refine aM_18 X K dX13_solve_92 x8 ?_
      refine sM_18 X K dX13_solve_93 x6 (fun σ9 eσ9 => ?_)
      have h := h σ9 eσ9
      refine z_aload_n X 1 dX13_solve_94 rfl ?_
      refine gM_26 X K dX13_solve_95 ?_
      refine z_iload_n X 3 dX13_solve_98 rfl ?_
      refine z_iload_n X 4 dX13_solve_99 rfl ?_
      refine z_imul X dX13_solve_100 ?_
      refine z_iload X 6 dX13_solve_101 rfl ?_
      refine z_iadd X dX13_solve_103 ?_
      refine z_iload X 0 dX13_solve_104 rfl ?_
      refine sM_18 X K dX13_solve_106 x8 (fun σ10 eσ10 => ?_)
      have h := h σ10 eσ10
      refine z_iincK X K 6 (lv' := [(5, .int (iz (v5 + 1))), (6, .int (iz v6_7)), (0, .ref (ad 0)), (1, .int (iz v1)), (2, .int (iz v2)), (3, .int (iz v3)), (4, .int (iz v4))]) dX13_solve_107 rfl rfl rfl ?_
      refine z_goto (tgt := 51) X dX13_solve_110 rfl ?_
      exact z_sub [2, 3, 4, 5, 6, 0] rfl (hC51 _ _ _ _ _ _ h)
set_option maxRecDepth 100000 in
theorem wkm_solve_40 {Γ : ZG} {l : Launch} {D : va_G} {cr : List vw_C} {ds : Nat → ClassId} {ad : Nat → Nat} {post : Int → ZS → Prop} (X : ZX Γ cX13_solve RX13 2 22) (K : ZCap Γ l (ΘM D cr ds ad) 9 0 0) (hR : ZRetI Γ cX13_solve .boolean 0 0 (fun r σ => (r = 0 ∨ r = 1) ∧ post r σ)) {C6 : Int × Int × Int × ZS → Prop} (hC6 : ∀ (v1 : Int) (v2 : Int) (v3 : Int) (σ : ZS), C6 (v1, v2, v3, σ) → Z Γ 0 0 σ [] 6 [(0, .ref (ad 0)), (1, .int (iz v1)), (2, .int (iz v2)), (3, .int (iz v3))] []) (v1 : Int) (v2 : Int) (v3 : Int) (v4 : Int) (σ : ZS) (h : wm_solve_40 C6 post v1 v2 v3 v4 σ) : Z Γ 0 0 σ [] 40 [(0, .ref (ad 0)), (1, .int (iz v1)), (2, .int (iz v2)), (3, .int (iz v3)), (4, .int (iz v4))] [] := by
  refine z_iload X 4 dX13_solve_40 rfl ?_
  refine z_iload_n X 1 dX13_solve_42 rfl ?_
  obtain ⟨i1, h⟩ := h
  obtain ⟨i2, h⟩ := h
  refine z_icmp_ne X 48 dX13_solve_43 rfl i1 i2 (fun c3 => ?_) (fun c3 => ?_)
  · have h := h.1 c3
    refine z_iconst X 0 dX13_solve_48 ?_
    refine z_istoreK X K (lv' := [(5, .int (iz 0)), (0, .ref (ad 0)), (1, .int (iz v1)), (2, .int (iz v2)), (3, .int (iz v3)), (4, .int (iz v4))]) dX13_solve_49 rfl rfl ?_
    obtain ⟨N, h⟩ := h
    exact z_sub [1, 2, 3, 4, 5, 0] rfl (wkm_solve_51 X K hR hC6 N _ _ _ _ _ _ h)
  · have h := h.2 c3
    refine z_iconst X 0 dX13_solve_46 ?_
    exact hR _ _ _ _ _ _ _ dX13_solve_47 (z_nb (Or.inl rfl)) (Nat.le_refl 0) (Nat.le_refl 0) ⟨(Or.inl rfl), h⟩
set_option maxRecDepth 100000 in
theorem wkm_solve_14 {Γ : ZG} {l : Launch} {D : va_G} {cr : List vw_C} {ds : Nat → ClassId} {ad : Nat → Nat} {post : Int → ZS → Prop} (X : ZX Γ cX13_solve RX13 2 22) (K : ZCap Γ l (ΘM D cr ds ad) 9 0 0) (hR : ZRetI Γ cX13_solve .boolean 0 0 (fun r σ => (r = 0 ∨ r = 1) ∧ post r σ)) {C6 : Int × Int × Int × ZS → Prop} (hC6 : ∀ (v1 : Int) (v2 : Int) (v3 : Int) (σ : ZS), C6 (v1, v2, v3, σ) → Z Γ 0 0 σ [] 6 [(0, .ref (ad 0)), (1, .int (iz v1)), (2, .int (iz v2)), (3, .int (iz v3))] []) : ∀ (N : Nat) (v1 : Int) (v2 : Int) (v3 : Int) (v4 : Int) (σ : ZS), zfix (wbm_solve_14 C6 post) N (v1, v2, v3, v4, σ) → Z Γ 0 0 σ [] 14 [(0, .ref (ad 0)), (1, .int (iz v1)), (2, .int (iz v2)), (3, .int (iz v3)), (4, .int (iz v4))] [] := by
  intro N
  induction N with
  | zero => intro v1 v2 v3 v4 σ h; exact False.elim h
  | succ N ih =>
    intro v1 v2 v3 v4 σ h
    have h : wbm_solve_14 C6 post (zfix (wbm_solve_14 C6 post) N) (v1, v2, v3, v4, σ) := h
    have hC14 := ih
    clear ih
    generalize zfix (wbm_solve_14 C6 post) N = C14 at h hC14
    dsimp only [wbm_solve_14] at h
    refine z_iload X 4 dX13_solve_14 rfl ?_
    refine z_iload_n X 1 dX13_solve_16 rfl ?_
    obtain ⟨i1, h⟩ := h
    obtain ⟨i2, h⟩ := h
    refine z_icmp_ge X 40 dX13_solve_17 rfl i1 i2 (fun c3 => ?_) (fun c3 => ?_)
    · have h := h.1 c3
      exact z_sub [0, 1, 2, 3, 4] rfl (wkm_solve_40 X K hR hC6 _ _ _ _ _ h)
    · have h := h.2 c3
      refine z_aload_n X 0 dX13_solve_20 rfl ?_
      refine gM_26 X K dX13_solve_21 ?_
      refine z_iload_n X 2 dX13_solve_24 rfl ?_
      refine z_iload X 4 dX13_solve_25 rfl ?_
      refine z_imul X dX13_solve_27 ?_
      refine z_iload_n X 3 dX13_solve_28 rfl ?_
      refine z_iadd X dX13_solve_29 ?_
      obtain ⟨x4, h⟩ := h
      refine aM_18 X K dX13_solve_30 x4 ?_
      obtain ⟨i5, h⟩ := h
      refine z_if_ne X 40 dX13_solve_31 rfl i5 (fun c6 => ?_) (fun c6 => ?_)
      · have h := h.1 c6
        exact z_sub [0, 1, 2, 3, 4] rfl (wkm_solve_40 X K hR hC6 _ _ _ _ _ h)
      · have h := h.2 c6
        refine z_iincK X K 4 (lv' := [(4, .int (iz (v4 + 1))), (0, .ref (ad 0)), (1, .int (iz v1)), (2, .int (iz v2)), (3, .int (iz v3))]) dX13_solve_34 rfl rfl rfl ?_
        refine z_goto (tgt := 14) X dX13_solve_37 rfl ?_
        exact z_sub [1, 2, 3, 4, 0] rfl (hC14 _ _ _ _ _ h)
set_option maxRecDepth 100000 in
theorem wkm_solve_6 {Γ : ZG} {l : Launch} {D : va_G} {cr : List vw_C} {ds : Nat → ClassId} {ad : Nat → Nat} {post : Int → ZS → Prop} (X : ZX Γ cX13_solve RX13 2 22) (K : ZCap Γ l (ΘM D cr ds ad) 9 0 0) (hR : ZRetI Γ cX13_solve .boolean 0 0 (fun r σ => (r = 0 ∨ r = 1) ∧ post r σ)) : ∀ (N : Nat) (v1 : Int) (v2 : Int) (v3 : Int) (σ : ZS), zfix (wbm_solve_6 post) N (v1, v2, v3, σ) → Z Γ 0 0 σ [] 6 [(0, .ref (ad 0)), (1, .int (iz v1)), (2, .int (iz v2)), (3, .int (iz v3))] [] := by
  intro N
  induction N with
  | zero => intro v1 v2 v3 σ h; exact False.elim h
  | succ N ih =>
    intro v1 v2 v3 σ h
    have h : wbm_solve_6 post (zfix (wbm_solve_6 post) N) (v1, v2, v3, σ) := h
    have hC6 := ih
    clear ih
    generalize zfix (wbm_solve_6 post) N = C6 at h hC6
    dsimp only [wbm_solve_6] at h
    refine z_iload_n X 3 dX13_solve_6 rfl ?_
    refine z_iload_n X 1 dX13_solve_7 rfl ?_
    obtain ⟨i1, h⟩ := h
    obtain ⟨i2, h⟩ := h
    refine z_icmp_ge X 274 dX13_solve_8 rfl i1 i2 (fun c3 => ?_) (fun c3 => ?_)
    · have h := h.1 c3
      refine z_iconst X 0 dX13_solve_274 ?_
      refine z_istore_nK X K (lv' := [(3, .int (iz 0)), (0, .ref (ad 0)), (1, .int (iz v1)), (2, .int (iz v2))]) dX13_solve_275 rfl rfl ?_
      obtain ⟨N, h⟩ := h
      exact z_sub [1, 2, 3, 0] rfl (wkm_solve_276 X K hR N _ _ _ _ h)
    · have h := h.2 c3
      refine z_iload_n X 3 dX13_solve_11 rfl ?_
      refine z_istoreK X K (lv' := [(4, .int (iz v3)), (0, .ref (ad 0)), (1, .int (iz v1)), (2, .int (iz v2)), (3, .int (iz v3))]) dX13_solve_12 rfl rfl ?_
      obtain ⟨N, h⟩ := h
      exact z_sub [1, 2, 3, 4, 0] rfl (wkm_solve_14 X K hR hC6 N _ _ _ _ _ h)
set_option maxRecDepth 100000 in
theorem mt_solve (l : Launch) (D : va_G) (cr : List vw_C) (ds : Nat → ClassId) (ad : Nat → Nat) (a0 : Int) (σ : ZS) (post : Int → ZS → Prop) (h : wm_solve a0 σ post) : ZMetI l (ΘM D cr ds ad) yX13_solve cX13_solve 9 .boolean 2 22 0 0 [.ref (ad 0), .int (iz a0)] σ (fun r σ => (r = 0 ∨ r = 1) ∧ post r σ) := by
  refine ZMetI.of (by decide) (Nat.le_of_ble_eq_true rfl) (fun Γ X K hR => ?_)
  have X : ZX Γ cX13_solve RX13 2 22 := X
  refine z_sub [0, 1] (lv' := [(0, .ref (ad 0)), (1, .int (iz a0))]) rfl ?_
  refine z_iload_n X 1 dX13_solve_0 rfl ?_
  refine z_iconst X 1 dX13_solve_1 ?_
  refine z_iadd X dX13_solve_2 ?_
  refine z_istore_nK X K (lv' := [(2, .int (iz (a0 + 1))), (0, .ref (ad 0)), (1, .int (iz a0))]) dX13_solve_3 rfl rfl ?_
  refine z_iconst X 0 dX13_solve_4 ?_
  refine z_istore_nK X K (lv' := [(3, .int (iz 0)), (2, .int (iz (a0 + 1))), (0, .ref (ad 0)), (1, .int (iz a0))]) dX13_solve_5 rfl rfl ?_
  obtain ⟨N, h⟩ := h
  exact z_sub [2, 3, 1, 0] rfl (wkm_solve_6 X K hR N _ _ _ _ h)
set_option maxRecDepth 100000 in
theorem clm_solve {Γ : ZG} {cc : ByteArray} {fr lo nL pc : Nat} {lv : List (Nat × Value)} {st : List Value} {l : Launch} {D : va_G} {cr : List vw_C} {ds : Nat → ClassId} {ad : Nat → Nat} {a0 : Int} {σ : ZS} {post : Int → ZS → Prop} (X : ZX Γ cc RX13 fr lo) (K : ZCap Γ l (ΘM D cr ds ad) nL 0 0) (hrm : zroom 3 50 fr lo = true) (h : wm_solve a0 σ post) (hst : (st.map fun v => v.category).sum ≤ 8) (d : decode cc pc = .ok (.invokevirtual 217, 3)) (kk : ∀ (r : Int) (σ' : ZS), (fun r σ => (r = 0 ∨ r = 1) ∧ post r σ) r σ' → Z Γ 0 0 σ' [] (pc + 3) lv (.int (iz r) :: st)) : Z Γ 0 0 σ [] pc lv (.int (iz a0) :: .ref (ad 0) :: st) :=
  z_callVI' (C := RX13) (q0 := 0) X K (mt_solve l D cr ds ad a0 σ post h) (Nat.le_of_ble_eq_true rfl) rfl rfl rfl (lw_V q1559 q1561 qs71 q127 q1562) ⟨rfl, by decide, by decide, rfl⟩ (zroom_of hrm) ⟨Nat.zero_le _, Nat.zero_le _⟩ hst d rfl kk
/- X13_sum -/
set_option maxRecDepth 100000 in
theorem wkm_sum_74 {Γ : ZG} {l : Launch} {D : va_G} {cr : List vw_C} {ds : Nat → ClassId} {ad : Nat → Nat} {post : Int → ZS → Prop} (X : ZX Γ cX13_sum RX13 2 22) (K : ZCap Γ l (ΘM D cr ds ad) 6 0 0) (hR : ZRetI Γ cX13_sum .boolean 0 0 (fun r σ => (r = 0 ∨ r = 1) ∧ post r σ)) {C4 : Int × Int × Int × ZS → Prop} (hC4 : ∀ (v1 : Int) (v2 : Int) (v3 : Int) (σ : ZS), C4 (v1, v2, v3, σ) → Z Γ 0 0 σ [] 4 [(0, .ref (ad 0)), (1, .int (iz v1)), (2, .int (iz v2)), (3, .int (iz v3))] []) (v1 : Int) (v3 : Int) (t0 : Int) (σ : ZS) (h : wm_sum_74 C4 post v1 v3 t0 σ) : Z Γ 0 0 σ [] 74 [(0, .ref (ad 0)), (1, .int (iz v1)), (3, .int (iz v3))] [.int (iz t0)] := by
  refine z_istore_nK X K (lv' := [(2, .int (iz t0)), (0, .ref (ad 0)), (1, .int (iz v1)), (3, .int (iz v3))]) dX13_sum_74 rfl rfl ?_
  refine z_iincK X K 3 (lv' := [(3, .int (iz (v3 + 1))), (2, .int (iz t0)), (0, .ref (ad 0)), (1, .int (iz v1))]) dX13_sum_75 rfl rfl rfl ?_
  refine z_goto (tgt := 4) X dX13_sum_78 rfl ?_
  exact z_sub [2, 3, 1, 0] rfl (hC4 _ _ _ _ h)
set_option maxRecDepth 100000 in
theorem wkm_sum_73 {Γ : ZG} {l : Launch} {D : va_G} {cr : List vw_C} {ds : Nat → ClassId} {ad : Nat → Nat} {post : Int → ZS → Prop} (X : ZX Γ cX13_sum RX13 2 22) (K : ZCap Γ l (ΘM D cr ds ad) 6 0 0) (hR : ZRetI Γ cX13_sum .boolean 0 0 (fun r σ => (r = 0 ∨ r = 1) ∧ post r σ)) {C4 : Int × Int × Int × ZS → Prop} (hC4 : ∀ (v1 : Int) (v2 : Int) (v3 : Int) (σ : ZS), C4 (v1, v2, v3, σ) → Z Γ 0 0 σ [] 4 [(0, .ref (ad 0)), (1, .int (iz v1)), (2, .int (iz v2)), (3, .int (iz v3))] []) (v1 : Int) (v3 : Int) (σ : ZS) (h : wm_sum_73 C4 post v1 v3 σ) : Z Γ 0 0 σ [] 73 [(0, .ref (ad 0)), (1, .int (iz v1)), (3, .int (iz v3))] [] := by
  refine z_iconst X 0 dX13_sum_73 ?_
  exact z_sub [0, 1, 2] rfl (wkm_sum_74 X K hR hC4 _ _ _ _ h)
set_option maxRecDepth 100000 in
theorem wkm_sum_15 {Γ : ZG} {l : Launch} {D : va_G} {cr : List vw_C} {ds : Nat → ClassId} {ad : Nat → Nat} {post : Int → ZS → Prop} (X : ZX Γ cX13_sum RX13 2 22) (K : ZCap Γ l (ΘM D cr ds ad) 6 0 0) (hR : ZRetI Γ cX13_sum .boolean 0 0 (fun r σ => (r = 0 ∨ r = 1) ∧ post r σ)) {C4 : Int × Int × Int × ZS → Prop} (hC4 : ∀ (v1 : Int) (v2 : Int) (v3 : Int) (σ : ZS), C4 (v1, v2, v3, σ) → Z Γ 0 0 σ [] 4 [(0, .ref (ad 0)), (1, .int (iz v1)), (2, .int (iz v2)), (3, .int (iz v3))] []) : ∀ (N : Nat) (v1 : Int) (v2 : Int) (v3 : Int) (v4 : Int) (v5 : Int) (σ : ZS), zfix (wbm_sum_15 C4 post) N (v1, v2, v3, v4, v5, σ) → Z Γ 0 0 σ [] 15 [(0, .ref (ad 0)), (1, .int (iz v1)), (2, .int (iz v2)), (3, .int (iz v3)), (4, .int (iz v4)), (5, .int (iz v5))] [] := by
  intro N
  induction N with
  | zero => intro v1 v2 v3 v4 v5 σ h; exact False.elim h
  | succ N ih =>
    intro v1 v2 v3 v4 v5 σ h
    have h : wbm_sum_15 C4 post (zfix (wbm_sum_15 C4 post) N) (v1, v2, v3, v4, v5, σ) := h
    have hC15 := ih
    clear ih
    generalize zfix (wbm_sum_15 C4 post) N = C15 at h hC15
    dsimp only [wbm_sum_15] at h
    refine z_iload X 5 dX13_sum_15 rfl ?_
    refine z_aload_n X 0 dX13_sum_17 rfl ?_
    refine gM_25 X K dX13_sum_18 ?_
    obtain ⟨i1, h⟩ := h
    obtain ⟨i2, h⟩ := h
    refine z_icmp_ge X 52 dX13_sum_21 rfl i1 i2 (fun c3 => ?_) (fun c3 => ?_)
    · have h := h.1 c3
      refine z_aload_n X 0 dX13_sum_52 rfl ?_
      refine gM_23 X K dX13_sum_53 ?_
      refine z_iload_n X 3 dX13_sum_56 rfl ?_
      refine z_iload X 4 dX13_sum_57 rfl ?_
      obtain ⟨x4, h⟩ := h
      refine sM_16 X K dX13_sum_59 x4 (fun σ5 eσ5 => ?_)
      have h := h σ5 eσ5
      refine z_iload_n X 2 dX13_sum_60 rfl ?_
      obtain ⟨i6, h⟩ := h
      refine z_if_eq X 73 dX13_sum_61 rfl i6 (fun c7 => ?_) (fun c7 => ?_)
      · have h := h.1 c7
        exact z_sub [0, 1, 3] rfl (wkm_sum_73 X K hR hC4 _ _ _ h)
      · have h := h.2 c7
        refine z_iload X 4 dX13_sum_64 rfl ?_
        obtain ⟨i8, h⟩ := h
        refine z_if_ne X 73 dX13_sum_66 rfl i8 (fun c9 => ?_) (fun c9 => ?_)
        · have h := h.1 c9
          exact z_sub [0, 1, 3] rfl (wkm_sum_73 X K hR hC4 _ _ _ h)
        · have h := h.2 c9
          refine z_iconst X 1 dX13_sum_69 ?_
          refine z_goto (tgt := 74) X dX13_sum_70 rfl ?_
          exact z_sub [0, 1, 3] rfl (wkm_sum_74 X K hR hC4 _ _ _ _ h)
    · have h := h.2 c3
      refine z_aload_n X 0 dX13_sum_24 rfl ?_
      refine z_iload X 4 dX13_sum_25 rfl ?_
      refine z_aload_n X 0 dX13_sum_27 rfl ?_
      refine gM_7 X K dX13_sum_28 ?_
      refine z_iload_n X 3 dX13_sum_31 rfl ?_
      obtain ⟨x10, h⟩ := h
      refine aM_7 X K dX13_sum_32 x10 ?_
      refine clm_product X K rfl h (Nat.le_of_ble_eq_true rfl) dX13_sum_33 (fun r12 σ11 h => ?_)
      refine z_aload_n X 0 dX13_sum_36 rfl ?_
      refine gM_24 X K dX13_sum_37 ?_
      refine z_iload X 5 dX13_sum_40 rfl ?_
      obtain ⟨x13, h⟩ := h
      refine aM_17 X K dX13_sum_42 x13 ?_
      refine z_ixor X dX13_sum_43 ?_
      refine z_topi (fun v4_14 ev4_14 => ?_)
      have h := h v4_14 ev4_14
      refine z_istoreK X K (lv' := [(4, .int (iz v4_14)), (0, .ref (ad 0)), (1, .int (iz v1)), (2, .int (iz v2)), (3, .int (iz v3)), (5, .int (iz v5))]) dX13_sum_44 rfl rfl ?_
      refine z_iincK X K 5 (lv' := [(5, .int (iz (v5 + 1))), (4, .int (iz v4_14)), (0, .ref (ad 0)), (1, .int (iz v1)), (2, .int (iz v2)), (3, .int (iz v3))]) dX13_sum_46 rfl rfl rfl ?_
      refine z_goto (tgt := 15) X dX13_sum_49 rfl ?_
      exact z_sub [2, 3, 4, 5, 1, 0] rfl (hC15 _ _ _ _ _ _ h)
set_option maxRecDepth 100000 in
theorem wkm_sum_4 {Γ : ZG} {l : Launch} {D : va_G} {cr : List vw_C} {ds : Nat → ClassId} {ad : Nat → Nat} {post : Int → ZS → Prop} (X : ZX Γ cX13_sum RX13 2 22) (K : ZCap Γ l (ΘM D cr ds ad) 6 0 0) (hR : ZRetI Γ cX13_sum .boolean 0 0 (fun r σ => (r = 0 ∨ r = 1) ∧ post r σ)) : ∀ (N : Nat) (v1 : Int) (v2 : Int) (v3 : Int) (σ : ZS), zfix (wbm_sum_4 post) N (v1, v2, v3, σ) → Z Γ 0 0 σ [] 4 [(0, .ref (ad 0)), (1, .int (iz v1)), (2, .int (iz v2)), (3, .int (iz v3))] [] := by
  intro N
  induction N with
  | zero => intro v1 v2 v3 σ h; exact False.elim h
  | succ N ih =>
    intro v1 v2 v3 σ h
    have h : wbm_sum_4 post (zfix (wbm_sum_4 post) N) (v1, v2, v3, σ) := h
    have hC4 := ih
    clear ih
    generalize zfix (wbm_sum_4 post) N = C4 at h hC4
    dsimp only [wbm_sum_4] at h
    refine z_iload_n X 3 dX13_sum_4 rfl ?_
    refine z_iload_n X 1 dX13_sum_5 rfl ?_
    obtain ⟨i1, h⟩ := h
    obtain ⟨i2, h⟩ := h
    refine z_icmp_gt X 81 dX13_sum_6 rfl i1 i2 (fun c3 => ?_) (fun c3 => ?_)
    · have h := h.1 c3
      refine z_iload_n X 2 dX13_sum_81 rfl ?_
      obtain ⟨b4, h⟩ := h
      exact hR _ _ _ _ _ _ _ dX13_sum_82 (z_nb b4) (Nat.le_refl 0) (Nat.le_refl 0) ⟨b4, h⟩
    · have h := h.2 c3
      refine z_iconst X 0 dX13_sum_9 ?_
      refine z_istoreK X K (lv' := [(4, .int (iz 0)), (0, .ref (ad 0)), (1, .int (iz v1)), (2, .int (iz v2)), (3, .int (iz v3))]) dX13_sum_10 rfl rfl ?_
      refine z_iconst X 0 dX13_sum_12 ?_
      refine z_istoreK X K (lv' := [(5, .int (iz 0)), (4, .int (iz 0)), (0, .ref (ad 0)), (1, .int (iz v1)), (2, .int (iz v2)), (3, .int (iz v3))]) dX13_sum_13 rfl rfl ?_
      obtain ⟨N, h⟩ := h
      exact z_sub [2, 3, 4, 5, 1, 0] rfl (wkm_sum_15 X K hR hC4 N _ _ _ _ _ _ h)
set_option maxRecDepth 100000 in
theorem mt_sum (l : Launch) (D : va_G) (cr : List vw_C) (ds : Nat → ClassId) (ad : Nat → Nat) (a0 : Int) (σ : ZS) (post : Int → ZS → Prop) (h : wm_sum a0 σ post) : ZMetI l (ΘM D cr ds ad) yX13_sum cX13_sum 6 .boolean 2 22 0 0 [.ref (ad 0), .int (iz a0)] σ (fun r σ => (r = 0 ∨ r = 1) ∧ post r σ) := by
  refine ZMetI.of (by decide) (Nat.le_of_ble_eq_true rfl) (fun Γ X K hR => ?_)
  have X : ZX Γ cX13_sum RX13 2 22 := X
  refine z_sub [0, 1] (lv' := [(0, .ref (ad 0)), (1, .int (iz a0))]) rfl ?_
  refine z_iconst X 1 dX13_sum_0 ?_
  refine z_istore_nK X K (lv' := [(2, .int (iz 1)), (0, .ref (ad 0)), (1, .int (iz a0))]) dX13_sum_1 rfl rfl ?_
  refine z_iconst X 1 dX13_sum_2 ?_
  refine z_istore_nK X K (lv' := [(3, .int (iz 1)), (2, .int (iz 1)), (0, .ref (ad 0)), (1, .int (iz a0))]) dX13_sum_3 rfl rfl ?_
  obtain ⟨N, h⟩ := h
  exact z_sub [2, 3, 1, 0] rfl (wkm_sum_4 X K hR N _ _ _ _ h)
set_option maxRecDepth 100000 in
theorem clm_sum {Γ : ZG} {cc : ByteArray} {fr lo nL pc : Nat} {lv : List (Nat × Value)} {st : List Value} {l : Launch} {D : va_G} {cr : List vw_C} {ds : Nat → ClassId} {ad : Nat → Nat} {a0 : Int} {σ : ZS} {post : Int → ZS → Prop} (X : ZX Γ cc RX13 fr lo) (K : ZCap Γ l (ΘM D cr ds ad) nL 0 0) (hrm : zroom 3 47 fr lo = true) (h : wm_sum a0 σ post) (hst : (st.map fun v => v.category).sum ≤ 8) (d : decode cc pc = .ok (.invokevirtual 214, 3)) (kk : ∀ (r : Int) (σ' : ZS), (fun r σ => (r = 0 ∨ r = 1) ∧ post r σ) r σ' → Z Γ 0 0 σ' [] (pc + 3) lv (.int (iz r) :: st)) : Z Γ 0 0 σ [] pc lv (.int (iz a0) :: .ref (ad 0) :: st) :=
  z_callVI' (C := RX13) (q0 := 0) X K (mt_sum l D cr ds ad a0 σ post h) (Nat.le_of_ble_eq_true rfl) rfl rfl rfl (lw_V q1551 q1553 qs69 q127 q1554) ⟨rfl, by decide, by decide, rfl⟩ (zroom_of hrm) ⟨Nat.zero_le _, Nat.zero_le _⟩ hst d rfl kk
/- X13_values -/
set_option maxRecDepth 100000 in
theorem wkm_values_153 {Γ : ZG} {l : Launch} {D : va_G} {cr : List vw_C} {ds : Nat → ClassId} {ad : Nat → Nat} {post : Int → ZS → Prop} (X : ZX Γ cX13_values RX13 3 50) (K : ZCap Γ l (ΘM D cr ds ad) 5 0 0) (hR : ZRetI Γ cX13_values .boolean 0 0 (fun r σ => (r = 0 ∨ r = 1) ∧ post r σ)) {C100 : Int × Int × Int × ZS → Prop} (hC100 : ∀ (v1 : Int) (v2 : Int) (v3 : Int) (σ : ZS), C100 (v1, v2, v3, σ) → Z Γ 0 0 σ [] 100 [(0, .ref (ad 0)), (1, .int (iz v1)), (2, .int (iz v2)), (3, .int (iz v3))] []) (v1 : Int) (v2 : Int) (v3 : Int) (t0 : Int) (t1 : Int) (σ : ZS) (h : wm_values_153 C100 post v1 v2 v3 t0 t1 σ) : Z Γ 0 0 σ [] 153 [(0, .ref (ad 0)), (1, .int (iz v1)), (2, .int (iz v2)), (3, .int (iz v3))] [.int (iz t0), .int (iz t1), .ref (ad 0)] := by
  refine z_iadd X dX13_values_153 ?_
  refine pM_29 X K dX13_values_154 (fun σ1 eσ1 => ?_)
  have h := h σ1 eσ1
  refine z_iincK X K 3 (lv' := [(3, .int (iz (v3 + 1))), (0, .ref (ad 0)), (1, .int (iz v1)), (2, .int (iz v2))]) dX13_values_157 rfl rfl rfl ?_
  refine z_goto (tgt := 100) X dX13_values_160 rfl ?_
  exact z_sub [1, 2, 3, 0] rfl (hC100 _ _ _ _ h)
set_option maxRecDepth 100000 in
theorem wkm_values_100 {Γ : ZG} {l : Launch} {D : va_G} {cr : List vw_C} {ds : Nat → ClassId} {ad : Nat → Nat} {post : Int → ZS → Prop} (X : ZX Γ cX13_values RX13 3 50) (K : ZCap Γ l (ΘM D cr ds ad) 5 0 0) (hR : ZRetI Γ cX13_values .boolean 0 0 (fun r σ => (r = 0 ∨ r = 1) ∧ post r σ)) : ∀ (N : Nat) (v1 : Int) (v2 : Int) (v3 : Int) (σ : ZS), zfix (wbm_values_100 post) N (v1, v2, v3, σ) → Z Γ 0 0 σ [] 100 [(0, .ref (ad 0)), (1, .int (iz v1)), (2, .int (iz v2)), (3, .int (iz v3))] [] := by
  intro N
  induction N with
  | zero => intro v1 v2 v3 σ h; exact False.elim h
  | succ N ih =>
    intro v1 v2 v3 σ h
    have h : wbm_values_100 post (zfix (wbm_values_100 post) N) (v1, v2, v3, σ) := h
    have hC100 := ih
    clear ih
    generalize zfix (wbm_values_100 post) N = C100 at h hC100
    dsimp only [wbm_values_100] at h
    refine z_iload_n X 3 dX13_values_100 rfl ?_
    refine z_iload_n X 1 dX13_values_101 rfl ?_
    obtain ⟨i1, h⟩ := h
    obtain ⟨i2, h⟩ := h
    refine z_icmp_ge X 163 dX13_values_102 rfl i1 i2 (fun c3 => ?_) (fun c3 => ?_)
    · have h := h.1 c3
      refine z_aload_n X 0 dX13_values_163 rfl ?_
      refine z_iload_n X 2 dX13_values_164 rfl ?_
      refine clm_sum X K rfl h (Nat.le_of_ble_eq_true rfl) dX13_values_165 (fun r5 σ4 h => ?_)
      obtain ⟨b5, h⟩ := h
      have h := h b5
      exact hR _ _ _ _ _ _ _ dX13_values_168 (z_nb b5) (Nat.le_refl 0) (Nat.le_refl 0) ⟨b5, h⟩
    · have h := h.2 c3
      refine z_aload_n X 0 dX13_values_105 rfl ?_
      refine gM_24 X K dX13_values_106 ?_
      refine z_aload_n X 0 dX13_values_109 rfl ?_
      refine gM_27 X K dX13_values_110 ?_
      refine z_iload_n X 3 dX13_values_113 rfl ?_
      obtain ⟨x7, h⟩ := h
      refine aM_19 X K dX13_values_114 x7 ?_
      refine z_aload_n X 0 dX13_values_115 rfl ?_
      refine gM_24 X K dX13_values_116 ?_
      refine z_aload_n X 0 dX13_values_119 rfl ?_
      refine gM_27 X K dX13_values_120 ?_
      refine z_iload_n X 3 dX13_values_123 rfl ?_
      refine aM_19 X K dX13_values_124 x7 ?_
      obtain ⟨x8, h⟩ := h
      refine aM_17 X K dX13_values_125 x8 ?_
      refine z_aload_n X 0 dX13_values_126 rfl ?_
      refine gM_28 X K dX13_values_127 ?_
      refine z_iload_n X 3 dX13_values_130 rfl ?_
      refine aM_20 X K dX13_values_131 x7 ?_
      refine z_ixor X dX13_values_132 ?_
      refine sM_17 X K dX13_values_133 x8 (fun σ9 eσ9 => ?_)
      have h := h σ9 eσ9
      refine z_aload_n X 0 dX13_values_134 rfl ?_
      refine z_dup X dX13_values_135 rfl ?_
      refine gM_29 X K dX13_values_136 ?_
      refine z_aload_n X 0 dX13_values_139 rfl ?_
      refine gM_28 X K dX13_values_140 ?_
      refine z_iload_n X 3 dX13_values_143 rfl ?_
      refine aM_20 X K dX13_values_144 x7 ?_
      obtain ⟨i10, h⟩ := h
      refine z_if_ne X 152 dX13_values_145 rfl i10 (fun c11 => ?_) (fun c11 => ?_)
      · have h := h.1 c11
        refine z_iconst X 1 dX13_values_152 ?_
        exact z_sub [0, 1, 2, 3] rfl (wkm_values_153 X K hR hC100 _ _ _ _ _ _ h)
      · have h := h.2 c11
        refine z_iconst X 0 dX13_values_148 ?_
        refine z_goto (tgt := 153) X dX13_values_149 rfl ?_
        exact z_sub [0, 1, 2, 3] rfl (wkm_values_153 X K hR hC100 _ _ _ _ _ _ h)
set_option maxRecDepth 100000 in
theorem wkm_values_10 {Γ : ZG} {l : Launch} {D : va_G} {cr : List vw_C} {ds : Nat → ClassId} {ad : Nat → Nat} {post : Int → ZS → Prop} (X : ZX Γ cX13_values RX13 3 50) (K : ZCap Γ l (ΘM D cr ds ad) 5 0 0) (hR : ZRetI Γ cX13_values .boolean 0 0 (fun r σ => (r = 0 ∨ r = 1) ∧ post r σ)) {C2 : Int × Int × Int × ZS → Prop} (hC2 : ∀ (v1 : Int) (v2 : Int) (v3 : Int) (σ : ZS), C2 (v1, v2, v3, σ) → Z Γ 0 0 σ [] 2 [(0, .ref (ad 0)), (1, .int (iz v1)), (2, .int (iz v2)), (3, .int (iz v3))] []) : ∀ (N : Nat) (v1 : Int) (v2 : Int) (v3 : Int) (v4 : Int) (σ : ZS), zfix (wbm_values_10 C2 post) N (v1, v2, v3, v4, σ) → Z Γ 0 0 σ [] 10 [(0, .ref (ad 0)), (1, .int (iz v1)), (2, .int (iz v2)), (3, .int (iz v3)), (4, .int (iz v4))] [] := by
  intro N
  induction N with
  | zero => intro v1 v2 v3 v4 σ h; exact False.elim h
  | succ N ih =>
    intro v1 v2 v3 v4 σ h
    have h : wbm_values_10 C2 post (zfix (wbm_values_10 C2 post) N) (v1, v2, v3, v4, σ) := h
    have hC10 := ih
    clear ih
    generalize zfix (wbm_values_10 C2 post) N = C10 at h hC10
    dsimp only [wbm_values_10] at h
    refine z_iload X 4 dX13_values_10 rfl ?_
    refine z_iload_n X 1 dX13_values_12 rfl ?_
    obtain ⟨i1, h⟩ := h
    obtain ⟨i2, h⟩ := h
    refine z_icmp_ge X 62 dX13_values_13 rfl i1 i2 (fun c3 => ?_) (fun c3 => ?_)
    · have h := h.1 c3
      refine z_aload_n X 0 dX13_values_62 rfl ?_
      refine gM_26 X K dX13_values_63 ?_
      refine z_iload_n X 1 dX13_values_66 rfl ?_
      refine z_iconst X 1 dX13_values_67 ?_
      refine z_iadd X dX13_values_68 ?_
      refine z_iload_n X 3 dX13_values_69 rfl ?_
      refine z_imul X dX13_values_70 ?_
      refine z_iload_n X 1 dX13_values_71 rfl ?_
      refine z_iadd X dX13_values_72 ?_
      refine z_aload_n X 0 dX13_values_73 rfl ?_
      refine gM_23 X K dX13_values_74 ?_
      refine z_iconst X 1 dX13_values_77 ?_
      refine z_iload_n X 3 dX13_values_78 rfl ?_
      refine z_iadd X dX13_values_79 ?_
      obtain ⟨x4, h⟩ := h
      refine aM_16 X K dX13_values_80 x4 ?_
      obtain ⟨x5, h⟩ := h
      refine sM_18 X K dX13_values_81 x5 (fun σ6 eσ6 => ?_)
      have h := h σ6 eσ6
      refine z_iincK X K 3 (lv' := [(3, .int (iz (v3 + 1))), (0, .ref (ad 0)), (1, .int (iz v1)), (2, .int (iz v2)), (4, .int (iz v4))]) dX13_values_82 rfl rfl rfl ?_
      refine z_goto (tgt := 2) X dX13_values_85 rfl ?_
      exact z_sub [1, 2, 3, 0] rfl (hC2 _ _ _ _ h)
    · have h := h.2 c3
      refine z_aload_n X 0 dX13_values_16 rfl ?_
      refine gM_26 X K dX13_values_17 ?_
      refine z_iload_n X 1 dX13_values_20 rfl ?_
      refine z_iconst X 1 dX13_values_21 ?_
      refine z_iadd X dX13_values_22 ?_
      refine z_iload_n X 3 dX13_values_23 rfl ?_
      refine z_imul X dX13_values_24 ?_
      refine z_iload X 4 dX13_values_25 rfl ?_
      refine z_iadd X dX13_values_27 ?_
      refine z_aload_n X 0 dX13_values_28 rfl ?_
      refine gM_7 X K dX13_values_29 ?_
      refine z_iload_n X 3 dX13_values_32 rfl ?_
      refine z_iconst X 1 dX13_values_33 ?_
      refine z_iadd X dX13_values_34 ?_
      refine z_aload_n X 0 dX13_values_35 rfl ?_
      refine gM_25 X K dX13_values_36 ?_
      refine z_iconst X 1 dX13_values_39 ?_
      refine z_isub X dX13_values_40 ?_
      refine z_aload_n X 0 dX13_values_41 rfl ?_
      refine gM_27 X K dX13_values_42 ?_
      refine z_iload X 4 dX13_values_45 rfl ?_
      obtain ⟨x7, h⟩ := h
      refine aM_19 X K dX13_values_47 x7 ?_
      refine z_isub X dX13_values_48 ?_
      refine z_imul X dX13_values_49 ?_
      refine z_sipush X 255 dX13_values_50 rfl ?_
      obtain ⟨i8, h⟩ := h
      obtain ⟨g9, h⟩ := h
      refine z_irem X dX13_values_53 ⟨i8, (by decide), g9, (by decide)⟩ ?_
      obtain ⟨x10, h⟩ := h
      refine aM_7 X K dX13_values_54 x10 ?_
      obtain ⟨x11, h⟩ := h
      refine sM_18 X K dX13_values_55 x11 (fun σ12 eσ12 => ?_)
      have h := h σ12 eσ12
      refine z_iincK X K 4 (lv' := [(4, .int (iz (v4 + 1))), (0, .ref (ad 0)), (1, .int (iz v1)), (2, .int (iz v2)), (3, .int (iz v3))]) dX13_values_56 rfl rfl rfl ?_
      refine z_goto (tgt := 10) X dX13_values_59 rfl ?_
      exact z_sub [1, 2, 3, 4, 0] rfl (hC10 _ _ _ _ _ h)
set_option maxRecDepth 100000 in
theorem wkm_values_2 {Γ : ZG} {l : Launch} {D : va_G} {cr : List vw_C} {ds : Nat → ClassId} {ad : Nat → Nat} {post : Int → ZS → Prop} (X : ZX Γ cX13_values RX13 3 50) (K : ZCap Γ l (ΘM D cr ds ad) 5 0 0) (hR : ZRetI Γ cX13_values .boolean 0 0 (fun r σ => (r = 0 ∨ r = 1) ∧ post r σ)) : ∀ (N : Nat) (v1 : Int) (v2 : Int) (v3 : Int) (σ : ZS), zfix (wbm_values_2 post) N (v1, v2, v3, σ) → Z Γ 0 0 σ [] 2 [(0, .ref (ad 0)), (1, .int (iz v1)), (2, .int (iz v2)), (3, .int (iz v3))] [] := by
  intro N
  induction N with
  | zero => intro v1 v2 v3 σ h; exact False.elim h
  | succ N ih =>
    intro v1 v2 v3 σ h
    have h : wbm_values_2 post (zfix (wbm_values_2 post) N) (v1, v2, v3, σ) := h
    have hC2 := ih
    clear ih
    generalize zfix (wbm_values_2 post) N = C2 at h hC2
    dsimp only [wbm_values_2] at h
    refine z_iload_n X 3 dX13_values_2 rfl ?_
    refine z_iload_n X 1 dX13_values_3 rfl ?_
    obtain ⟨i1, h⟩ := h
    obtain ⟨i2, h⟩ := h
    refine z_icmp_ge X 88 dX13_values_4 rfl i1 i2 (fun c3 => ?_) (fun c3 => ?_)
    · have h := h.1 c3
      refine z_aload_n X 0 dX13_values_88 rfl ?_
      refine z_iload_n X 1 dX13_values_89 rfl ?_
      refine clm_solve X K rfl h (Nat.le_of_ble_eq_true rfl) dX13_values_90 (fun r5 σ4 h => ?_)
      obtain ⟨b5, h⟩ := h
      have h := h b5
      refine z_if_ne X 98 dX13_values_93 rfl (InR_b b5) (fun c7 => ?_) (fun c7 => ?_)
      · have h := h.1 c7
        refine z_iconst X 0 dX13_values_98 ?_
        refine z_istore_nK X K (lv' := [(3, .int (iz 0)), (0, .ref (ad 0)), (1, .int (iz v1)), (2, .int (iz v2))]) dX13_values_99 rfl rfl ?_
        obtain ⟨N, h⟩ := h
        exact z_sub [1, 2, 3, 0] rfl (wkm_values_100 X K hR N _ _ _ _ h)
      · have h := h.2 c7
        refine z_iconst X 0 dX13_values_96 ?_
        exact hR _ _ _ _ _ _ _ dX13_values_97 (z_nb (Or.inl rfl)) (Nat.le_refl 0) (Nat.le_refl 0) ⟨(Or.inl rfl), h⟩
    · have h := h.2 c3
      refine z_iconst X 0 dX13_values_7 ?_
      refine z_istoreK X K (lv' := [(4, .int (iz 0)), (0, .ref (ad 0)), (1, .int (iz v1)), (2, .int (iz v2)), (3, .int (iz v3))]) dX13_values_8 rfl rfl ?_
      obtain ⟨N, h⟩ := h
      exact z_sub [1, 2, 3, 4, 0] rfl (wkm_values_10 X K hR hC2 N _ _ _ _ _ h)
set_option maxRecDepth 100000 in
theorem mt_values (l : Launch) (D : va_G) (cr : List vw_C) (ds : Nat → ClassId) (ad : Nat → Nat) (a0 : Int) (a1 : Int) (σ : ZS) (post : Int → ZS → Prop) (h : wm_values a0 a1 σ post) : ZMetI l (ΘM D cr ds ad) yX13_values cX13_values 5 .boolean 3 50 0 0 [.ref (ad 0), .int (iz a0), .int (iz a1)] σ (fun r σ => (r = 0 ∨ r = 1) ∧ post r σ) := by
  refine ZMetI.of (by decide) (Nat.le_of_ble_eq_true rfl) (fun Γ X K hR => ?_)
  have X : ZX Γ cX13_values RX13 3 50 := X
  refine z_sub [0, 1, 2] (lv' := [(0, .ref (ad 0)), (1, .int (iz a0)), (2, .int (iz a1))]) rfl ?_
  refine z_iconst X 0 dX13_values_0 ?_
  refine z_istore_nK X K (lv' := [(3, .int (iz 0)), (0, .ref (ad 0)), (1, .int (iz a0)), (2, .int (iz a1))]) dX13_values_1 rfl rfl ?_
  obtain ⟨N, h⟩ := h
  exact z_sub [1, 2, 3, 0] rfl (wkm_values_2 X K hR N _ _ _ _ h)
set_option maxRecDepth 100000 in
theorem clm_values {Γ : ZG} {cc : ByteArray} {fr lo nL pc : Nat} {lv : List (Nat × Value)} {st : List Value} {l : Launch} {D : va_G} {cr : List vw_C} {ds : Nat → ClassId} {ad : Nat → Nat} {a0 : Int} {a1 : Int} {σ : ZS} {post : Int → ZS → Prop} (X : ZX Γ cc RX13 fr lo) (K : ZCap Γ l (ΘM D cr ds ad) nL 0 0) (hrm : zroom 4 74 fr lo = true) (h : wm_values a0 a1 σ post) (hst : (st.map fun v => v.category).sum ≤ 8) (d : decode cc pc = .ok (.invokevirtual 223, 3)) (kk : ∀ (r : Int) (σ' : ZS), (fun r σ => (r = 0 ∨ r = 1) ∧ post r σ) r σ' → Z Γ 0 0 σ' [] (pc + 3) lv (.int (iz r) :: st)) : Z Γ 0 0 σ [] pc lv (.int (iz a1) :: .int (iz a0) :: .ref (ad 0) :: st) :=
  z_callVI' (C := RX13) (q0 := 0) X K (mt_values l D cr ds ad a0 a1 σ post h) (Nat.le_of_ble_eq_true rfl) rfl rfl rfl (lw_V q1571 q1573 qs74 q127 q1574) ⟨rfl, by decide, by decide, rfl⟩ (zroom_of hrm) ⟨Nat.zero_le _, Nat.zero_le _⟩ hst d rfl kk
/- X13_mend -/
set_option maxRecDepth 100000 in
theorem wkm_mend_101 {Γ : ZG} {l : Launch} {D : va_G} {cr : List vw_C} {ds : Nat → ClassId} {ad : Nat → Nat} {post : Int → ZS → Prop} (X : ZX Γ cX13_mend RX13 4 74) (K : ZCap Γ l (ΘM D cr ds ad) 6 0 0) (hR : ZRetI Γ cX13_mend .boolean 0 0 (fun r σ => (r = 0 ∨ r = 1) ∧ post r σ)) (v1 : Int) (v2 : Int) (v3 : Int) (σ : ZS) (h : wm_mend_101 post v1 v2 v3 σ) : Z Γ 0 0 σ [] 101 [(0, .ref (ad 0)), (1, .int (iz v1)), (2, .int (iz v2)), (3, .int (iz v3))] [] := by
  refine z_iload_n X 3 dX13_mend_101 rfl ?_
  obtain ⟨i1, h⟩ := h
  refine z_if_eq X 126 dX13_mend_102 rfl i1 (fun c2 => ?_) (fun c2 => ?_)
  · have h := h.1 c2
    refine z_iconst X 0 dX13_mend_126 ?_
    exact hR _ _ _ _ _ _ _ dX13_mend_127 (z_nb (Or.inl rfl)) (Nat.le_refl 0) (Nat.le_refl 0) ⟨(Or.inl rfl), h⟩
  · have h := h.2 c2
    refine z_aload_n X 0 dX13_mend_105 rfl ?_
    refine z_iload_n X 2 dX13_mend_106 rfl ?_
    refine clm_places X K rfl h (Nat.le_of_ble_eq_true rfl) dX13_mend_107 (fun r4 σ3 h => ?_)
    obtain ⟨b4, h⟩ := h
    have h := h b4
    refine z_if_eq X 126 dX13_mend_110 rfl (InR_b b4) (fun c6 => ?_) (fun c6 => ?_)
    · have h := h.1 c6
      refine z_iconst X 0 dX13_mend_126 ?_
      exact hR _ _ _ _ _ _ _ dX13_mend_127 (z_nb (Or.inl rfl)) (Nat.le_refl 0) (Nat.le_refl 0) ⟨(Or.inl rfl), h⟩
    · have h := h.2 c6
      refine z_aload_n X 0 dX13_mend_113 rfl ?_
      refine z_iload_n X 2 dX13_mend_114 rfl ?_
      refine z_iload_n X 1 dX13_mend_115 rfl ?_
      refine clm_values X K rfl h (Nat.le_of_ble_eq_true rfl) dX13_mend_116 (fun r8 σ7 h => ?_)
      obtain ⟨b8, h⟩ := h
      have h := h b8
      refine z_if_eq X 126 dX13_mend_119 rfl (InR_b b8) (fun c10 => ?_) (fun c10 => ?_)
      · have h := h.1 c10
        refine z_iconst X 0 dX13_mend_126 ?_
        exact hR _ _ _ _ _ _ _ dX13_mend_127 (z_nb (Or.inl rfl)) (Nat.le_refl 0) (Nat.le_refl 0) ⟨(Or.inl rfl), h⟩
      · have h := h.2 c10
        refine z_iconst X 1 dX13_mend_122 ?_
        refine z_goto (tgt := 127) X dX13_mend_123 rfl ?_
        exact hR _ _ _ _ _ _ _ dX13_mend_127 (z_nb (Or.inr rfl)) (Nat.le_refl 0) (Nat.le_refl 0) ⟨(Or.inr rfl), h⟩
set_option maxRecDepth 100000 in
theorem wkm_mend_96 {Γ : ZG} {l : Launch} {D : va_G} {cr : List vw_C} {ds : Nat → ClassId} {ad : Nat → Nat} {post : Int → ZS → Prop} (X : ZX Γ cX13_mend RX13 4 74) (K : ZCap Γ l (ΘM D cr ds ad) 6 0 0) (hR : ZRetI Γ cX13_mend .boolean 0 0 (fun r σ => (r = 0 ∨ r = 1) ∧ post r σ)) {C16 : Int × Int × Int × ZS → Prop} (hC16 : ∀ (v1 : Int) (v2 : Int) (v3 : Int) (σ : ZS), C16 (v1, v2, v3, σ) → Z Γ 0 0 σ [] 16 [(0, .ref (ad 0)), (1, .int (iz v1)), (2, .int (iz v2)), (3, .int (iz v3))] []) (v1 : Int) (v3 : Int) (t0 : Int) (t1 : Int) (σ : ZS) (h : wm_mend_96 C16 post v1 v3 t0 t1 σ) : Z Γ 0 0 σ [] 96 [(0, .ref (ad 0)), (1, .int (iz v1)), (3, .int (iz v3))] [.int (iz t0), .int (iz t1)] := by
  refine z_isub X dX13_mend_96 ?_
  refine z_topi (fun v2_1 ev2_1 => ?_)
  have h := h v2_1 ev2_1
  refine z_istore_nK X K (lv' := [(2, .int (iz v2_1)), (0, .ref (ad 0)), (1, .int (iz v1)), (3, .int (iz v3))]) dX13_mend_97 rfl rfl ?_
  refine z_goto (tgt := 16) X dX13_mend_98 rfl ?_
  exact z_sub [1, 2, 0, 3] rfl (hC16 _ _ _ _ h)
set_option maxRecDepth 100000 in
theorem wkm_mend_36 {Γ : ZG} {l : Launch} {D : va_G} {cr : List vw_C} {ds : Nat → ClassId} {ad : Nat → Nat} {post : Int → ZS → Prop} (X : ZX Γ cX13_mend RX13 4 74) (K : ZCap Γ l (ΘM D cr ds ad) 6 0 0) (hR : ZRetI Γ cX13_mend .boolean 0 0 (fun r σ => (r = 0 ∨ r = 1) ∧ post r σ)) {C16 : Int × Int × Int × ZS → Prop} (hC16 : ∀ (v1 : Int) (v2 : Int) (v3 : Int) (σ : ZS), C16 (v1, v2, v3, σ) → Z Γ 0 0 σ [] 16 [(0, .ref (ad 0)), (1, .int (iz v1)), (2, .int (iz v2)), (3, .int (iz v3))] []) {C27 : Int × Int × Int × ZS → Prop} (hC27 : ∀ (v1 : Int) (v2 : Int) (v4 : Int) (σ : ZS), C27 (v1, v2, v4, σ) → Z Γ 0 0 σ [] 27 [(0, .ref (ad 0)), (1, .int (iz v1)), (2, .int (iz v2)), (4, .int (iz v4))] []) : ∀ (N : Nat) (v1 : Int) (v2 : Int) (v4 : Int) (v5 : Int) (σ : ZS), zfix (wbm_mend_36 C16 C27 post) N (v1, v2, v4, v5, σ) → Z Γ 0 0 σ [] 36 [(0, .ref (ad 0)), (1, .int (iz v1)), (2, .int (iz v2)), (4, .int (iz v4)), (5, .int (iz v5))] [] := by
  intro N
  induction N with
  | zero => intro v1 v2 v4 v5 σ h; exact False.elim h
  | succ N ih =>
    intro v1 v2 v4 v5 σ h
    have h : wbm_mend_36 C16 C27 post (zfix (wbm_mend_36 C16 C27 post) N) (v1, v2, v4, v5, σ) := h
    have hC36 := ih
    clear ih
    generalize zfix (wbm_mend_36 C16 C27 post) N = C36 at h hC36
    dsimp only [wbm_mend_36] at h
    refine z_iload X 4 dX13_mend_36 rfl ?_
    refine z_iload_n X 2 dX13_mend_38 rfl ?_
    obtain ⟨i1, h⟩ := h
    obtain ⟨i2, h⟩ := h
    refine z_icmp_gt X 74 dX13_mend_39 rfl i1 i2 (fun c3 => ?_) (fun c3 => ?_)
    · have h := h.1 c3
      refine z_iincK X K 3 (lv' := [(4, .int (iz (v4 + 1))), (0, .ref (ad 0)), (1, .int (iz v1)), (2, .int (iz v2)), (5, .int (iz v5))]) dX13_mend_74 rfl rfl rfl ?_
      refine z_goto (tgt := 27) X dX13_mend_77 rfl ?_
      exact z_sub [1, 2, 3, 0] rfl (hC27 _ _ _ _ h)
    · have h := h.2 c3
      refine z_aload_n X 0 dX13_mend_42 rfl ?_
      refine gM_26 X K dX13_mend_43 ?_
      refine z_iload_n X 2 dX13_mend_46 rfl ?_
      refine z_iconst X 1 dX13_mend_47 ?_
      refine z_iadd X dX13_mend_48 ?_
      refine z_iload X 3 dX13_mend_49 rfl ?_
      refine z_imul X dX13_mend_51 ?_
      refine z_iload X 4 dX13_mend_52 rfl ?_
      refine z_iadd X dX13_mend_54 ?_
      refine z_aload_n X 0 dX13_mend_55 rfl ?_
      refine gM_23 X K dX13_mend_56 ?_
      refine z_iconst X 1 dX13_mend_59 ?_
      refine z_iload X 3 dX13_mend_60 rfl ?_
      refine z_iadd X dX13_mend_62 ?_
      refine z_iload X 4 dX13_mend_63 rfl ?_
      refine z_iadd X dX13_mend_65 ?_
      obtain ⟨x4, h⟩ := h
      refine aM_16 X K dX13_mend_66 x4 ?_
      obtain ⟨x5, h⟩ := h
      refine sM_18 X K dX13_mend_67 x5 (fun σ6 eσ6 => ?_)
      have h := h σ6 eσ6
      refine z_iincK X K 4 (lv' := [(5, .int (iz (v5 + 1))), (0, .ref (ad 0)), (1, .int (iz v1)), (2, .int (iz v2)), (4, .int (iz v4))]) dX13_mend_68 rfl rfl rfl ?_
      refine z_goto (tgt := 36) X dX13_mend_71 rfl ?_
      exact z_sub [1, 2, 3, 4, 0] rfl (hC36 _ _ _ _ _ h)
set_option maxRecDepth 100000 in
theorem wkm_mend_27 {Γ : ZG} {l : Launch} {D : va_G} {cr : List vw_C} {ds : Nat → ClassId} {ad : Nat → Nat} {post : Int → ZS → Prop} (X : ZX Γ cX13_mend RX13 4 74) (K : ZCap Γ l (ΘM D cr ds ad) 6 0 0) (hR : ZRetI Γ cX13_mend .boolean 0 0 (fun r σ => (r = 0 ∨ r = 1) ∧ post r σ)) {C16 : Int × Int × Int × ZS → Prop} (hC16 : ∀ (v1 : Int) (v2 : Int) (v3 : Int) (σ : ZS), C16 (v1, v2, v3, σ) → Z Γ 0 0 σ [] 16 [(0, .ref (ad 0)), (1, .int (iz v1)), (2, .int (iz v2)), (3, .int (iz v3))] []) : ∀ (N : Nat) (v1 : Int) (v2 : Int) (v4 : Int) (σ : ZS), zfix (wbm_mend_27 C16 post) N (v1, v2, v4, σ) → Z Γ 0 0 σ [] 27 [(0, .ref (ad 0)), (1, .int (iz v1)), (2, .int (iz v2)), (4, .int (iz v4))] [] := by
  intro N
  induction N with
  | zero => intro v1 v2 v4 σ h; exact False.elim h
  | succ N ih =>
    intro v1 v2 v4 σ h
    have h : wbm_mend_27 C16 post (zfix (wbm_mend_27 C16 post) N) (v1, v2, v4, σ) := h
    have hC27 := ih
    clear ih
    generalize zfix (wbm_mend_27 C16 post) N = C27 at h hC27
    dsimp only [wbm_mend_27] at h
    refine z_iload X 3 dX13_mend_27 rfl ?_
    refine z_iload_n X 2 dX13_mend_29 rfl ?_
    obtain ⟨i1, h⟩ := h
    obtain ⟨i2, h⟩ := h
    refine z_icmp_ge X 80 dX13_mend_30 rfl i1 i2 (fun c3 => ?_) (fun c3 => ?_)
    · have h := h.1 c3
      refine z_aload_n X 0 dX13_mend_80 rfl ?_
      refine z_iload_n X 2 dX13_mend_81 rfl ?_
      refine clm_solve X K rfl h (Nat.le_of_ble_eq_true rfl) dX13_mend_82 (fun r5 σ4 h => ?_)
      obtain ⟨b5, h⟩ := h
      have h := h b5
      refine z_istore_nK X K (lv' := [(3, .int (iz r5)), (0, .ref (ad 0)), (1, .int (iz v1)), (2, .int (iz v2)), (4, .int (iz v4))]) dX13_mend_85 rfl rfl ?_
      refine z_iload_n X 3 dX13_mend_86 rfl ?_
      refine z_iload_n X 0 dX13_mend_87 rfl ?_
      refine z_if_eq X 95 dX13_mend_88 rfl (InR_b b5) (fun c7 => ?_) (fun c7 => ?_)
      · have h := h.1 c7
        refine z_iconst X 1 dX13_mend_95 ?_
        exact z_sub [1, 2, 0] rfl (wkm_mend_96 X K hR hC16 _ _ _ _ _ h)
      · have h := h.2 c7
        refine z_iconst X 0 dX13_mend_91 ?_
        refine z_goto (tgt := 96) X dX13_mend_92 rfl ?_
        exact z_sub [1, 2, 0] rfl (wkm_mend_96 X K hR hC16 _ _ _ _ _ h)
    · have h := h.2 c3
      refine z_iconst X 0 dX13_mend_33 ?_
      refine z_istoreK X K (lv' := [(5, .int (iz 0)), (0, .ref (ad 0)), (1, .int (iz v1)), (2, .int (iz v2)), (4, .int (iz v4))]) dX13_mend_34 rfl rfl ?_
      obtain ⟨N, h⟩ := h
      exact z_sub [1, 2, 3, 4, 0] rfl (wkm_mend_36 X K hR hC16 hC27 N _ _ _ _ _ h)
set_option maxRecDepth 100000 in
theorem wkm_mend_16 {Γ : ZG} {l : Launch} {D : va_G} {cr : List vw_C} {ds : Nat → ClassId} {ad : Nat → Nat} {post : Int → ZS → Prop} (X : ZX Γ cX13_mend RX13 4 74) (K : ZCap Γ l (ΘM D cr ds ad) 6 0 0) (hR : ZRetI Γ cX13_mend .boolean 0 0 (fun r σ => (r = 0 ∨ r = 1) ∧ post r σ)) : ∀ (N : Nat) (v1 : Int) (v2 : Int) (v3 : Int) (σ : ZS), zfix (wbm_mend_16 post) N (v1, v2, v3, σ) → Z Γ 0 0 σ [] 16 [(0, .ref (ad 0)), (1, .int (iz v1)), (2, .int (iz v2)), (3, .int (iz v3))] [] := by
  intro N
  induction N with
  | zero => intro v1 v2 v3 σ h; exact False.elim h
  | succ N ih =>
    intro v1 v2 v3 σ h
    have h : wbm_mend_16 post (zfix (wbm_mend_16 post) N) (v1, v2, v3, σ) := h
    have hC16 := ih
    clear ih
    generalize zfix (wbm_mend_16 post) N = C16 at h hC16
    dsimp only [wbm_mend_16] at h
    refine z_iload_n X 2 dX13_mend_16 rfl ?_
    obtain ⟨i1, h⟩ := h
    refine z_if_le X 101 dX13_mend_17 rfl i1 (fun c2 => ?_) (fun c2 => ?_)
    · have h := h.1 c2
      exact z_sub [0, 1, 2, 3] rfl (wkm_mend_101 X K hR _ _ _ _ h)
    · have h := h.2 c2
      refine z_iload_n X 3 dX13_mend_20 rfl ?_
      obtain ⟨i3, h⟩ := h
      refine z_if_ne X 101 dX13_mend_21 rfl i3 (fun c4 => ?_) (fun c4 => ?_)
      · have h := h.1 c4
        exact z_sub [0, 1, 2, 3] rfl (wkm_mend_101 X K hR _ _ _ _ h)
      · have h := h.2 c4
        refine z_iconst X 0 dX13_mend_24 ?_
        refine z_istoreK X K (lv' := [(4, .int (iz 0)), (0, .ref (ad 0)), (1, .int (iz v1)), (2, .int (iz v2)), (3, .int (iz v3))]) dX13_mend_25 rfl rfl ?_
        obtain ⟨N, h⟩ := h
        exact z_sub [1, 2, 3, 0] rfl (wkm_mend_27 X K hR hC16 N _ _ _ _ h)
set_option maxRecDepth 100000 in
theorem mt_mend (l : Launch) (D : va_G) (cr : List vw_C) (ds : Nat → ClassId) (ad : Nat → Nat) (a0 : Int) (σ : ZS) (post : Int → ZS → Prop) (h : wm_mend a0 σ post) : ZMetI l (ΘM D cr ds ad) yX13_mend cX13_mend 6 .boolean 4 74 0 0 [.ref (ad 0), .int (iz a0)] σ (fun r σ => (r = 0 ∨ r = 1) ∧ post r σ) := by
  refine ZMetI.of (by decide) (Nat.le_of_ble_eq_true rfl) (fun Γ X K hR => ?_)
  have X : ZX Γ cX13_mend RX13 4 74 := X
  refine z_sub [0, 1] (lv' := [(0, .ref (ad 0)), (1, .int (iz a0))]) rfl ?_
  refine z_aload_n X 0 dX13_mend_0 rfl ?_
  refine z_iload_n X 1 dX13_mend_1 rfl ?_
  refine clm_sum X K rfl h (Nat.le_of_ble_eq_true rfl) dX13_mend_2 (fun r2 σ1 h => ?_)
  obtain ⟨b2, h⟩ := h
  have h := h b2
  refine z_if_eq X 10 dX13_mend_5 rfl (InR_b b2) (fun c4 => ?_) (fun c4 => ?_)
  · have h := h.1 c4
    refine z_iload_n X 1 dX13_mend_10 rfl ?_
    refine z_iconst X 2 dX13_mend_11 ?_
    obtain ⟨i5, h⟩ := h
    obtain ⟨g6, h⟩ := h
    refine z_idiv X dX13_mend_12 ⟨i5, (by decide), g6, (by decide)⟩ ?_
    refine z_topi (fun v2_7 ev2_7 => ?_)
    have h := h v2_7 ev2_7
    refine z_istore_nK X K (lv' := [(2, .int (iz v2_7)), (0, .ref (ad 0)), (1, .int (iz a0))]) dX13_mend_13 rfl rfl ?_
    refine z_iconst X 0 dX13_mend_14 ?_
    refine z_istore_nK X K (lv' := [(3, .int (iz 0)), (2, .int (iz v2_7)), (0, .ref (ad 0)), (1, .int (iz a0))]) dX13_mend_15 rfl rfl ?_
    obtain ⟨N, h⟩ := h
    exact z_sub [2, 3, 1, 0] rfl (wkm_mend_16 X K hR N _ _ _ _ h)
  · have h := h.2 c4
    refine z_iconst X 1 dX13_mend_8 ?_
    exact hR _ _ _ _ _ _ _ dX13_mend_9 (z_nb (Or.inr rfl)) (Nat.le_refl 0) (Nat.le_refl 0) ⟨(Or.inr rfl), h⟩
set_option maxRecDepth 100000 in
theorem clm_mend {Γ : ZG} {cc : ByteArray} {fr lo nL pc : Nat} {lv : List (Nat × Value)} {st : List Value} {l : Launch} {D : va_G} {cr : List vw_C} {ds : Nat → ClassId} {ad : Nat → Nat} {a0 : Int} {σ : ZS} {post : Int → ZS → Prop} (X : ZX Γ cc RX13 fr lo) (K : ZCap Γ l (ΘM D cr ds ad) nL 0 0) (hrm : zroom 5 99 fr lo = true) (h : wm_mend a0 σ post) (hst : (st.map fun v => v.category).sum ≤ 8) (d : decode cc pc = .ok (.invokevirtual 228, 3)) (kk : ∀ (r : Int) (σ' : ZS), (fun r σ => (r = 0 ∨ r = 1) ∧ post r σ) r σ' → Z Γ 0 0 σ' [] (pc + 3) lv (.int (iz r) :: st)) : Z Γ 0 0 σ [] pc lv (.int (iz a0) :: .ref (ad 0) :: st) :=
  z_callVI' (C := RX13) (q0 := 0) X K (mt_mend l D cr ds ad a0 σ post h) (Nat.le_of_ble_eq_true rfl) rfl rfl rfl (lw_V q1547 q1549 qs68 q127 q1550) ⟨rfl, by decide, by decide, rfl⟩ (zroom_of hrm) ⟨Nat.zero_le _, Nat.zero_le _⟩ hst d rfl kk
/- X13_mendAll -/
set_option maxRecDepth 100000 in
theorem wkm_mendAll_119 {Γ : ZG} {l : Launch} {D : va_G} {cr : List vw_C} {ds : Nat → ClassId} {ad : Nat → Nat} {post : Int → ZS → Prop} (X : ZX Γ cX13_mendAll RX13 5 99) (K : ZCap Γ l (ΘM D cr ds ad) 7 0 0) (hR : ZRetI Γ cX13_mendAll .boolean 0 0 (fun r σ => (r = 0 ∨ r = 1) ∧ post r σ)) {C20 : Int × Int × Int × Int × ZS → Prop} (hC20 : ∀ (v1 : Int) (v2 : Int) (v3 : Int) (v4 : Int) (σ : ZS), C20 (v1, v2, v3, v4, σ) → Z Γ 0 0 σ [] 20 [(0, .ref (ad 0)), (1, .int (iz v1)), (2, .int (iz v2)), (3, .int (iz v3)), (4, .int (iz v4))] []) : ∀ (N : Nat) (v1 : Int) (v2 : Int) (v3 : Int) (v4 : Int) (v6 : Int) (σ : ZS), zfix (wbm_mendAll_119 C20 post) N (v1, v2, v3, v4, v6, σ) → Z Γ 0 0 σ [] 119 [(0, .ref (ad 0)), (1, .int (iz v1)), (2, .int (iz v2)), (3, .int (iz v3)), (4, .int (iz v4)), (6, .int (iz v6))] [] := by
  intro N
  induction N with
  | zero => intro v1 v2 v3 v4 v6 σ h; exact False.elim h
  | succ N ih =>
    intro v1 v2 v3 v4 v6 σ h
    have h : wbm_mendAll_119 C20 post (zfix (wbm_mendAll_119 C20 post) N) (v1, v2, v3, v4, v6, σ) := h
    have hC119 := ih
    clear ih
    generalize zfix (wbm_mendAll_119 C20 post) N = C119 at h hC119
    dsimp only [wbm_mendAll_119] at h
    refine z_iload X 5 dX13_mendAll_119 rfl ?_
    refine z_aload_n X 0 dX13_mendAll_121 rfl ?_
    refine gM_25 X K dX13_mendAll_122 ?_
    obtain ⟨i1, h⟩ := h
    obtain ⟨i2, h⟩ := h
    refine z_icmp_ge X 158 dX13_mendAll_125 rfl i1 i2 (fun c3 => ?_) (fun c3 => ?_)
    · have h := h.1 c3
      refine z_iincK X K 4 (lv' := [(4, .int (iz (v4 + 1))), (0, .ref (ad 0)), (1, .int (iz v1)), (2, .int (iz v2)), (3, .int (iz v3)), (6, .int (iz v6))]) dX13_mendAll_158 rfl rfl rfl ?_
      refine z_goto (tgt := 20) X dX13_mendAll_161 rfl ?_
      exact z_sub [1, 2, 3, 4, 0] rfl (hC20 _ _ _ _ _ h)
    · have h := h.2 c3
      refine z_aload_n X 0 dX13_mendAll_128 rfl ?_
      refine gM_20 X K dX13_mendAll_129 ?_
      refine z_iload X 4 dX13_mendAll_132 rfl ?_
      refine z_iload X 5 dX13_mendAll_134 rfl ?_
      refine z_aload_n X 0 dX13_mendAll_136 rfl ?_
      refine gM_4 X K dX13_mendAll_137 ?_
      refine z_iload_n X 1 dX13_mendAll_140 rfl ?_
      obtain ⟨x4, h⟩ := h
      refine aM_4 X K dX13_mendAll_141 x4 ?_
      refine z_imul X dX13_mendAll_142 ?_
      refine z_iadd X dX13_mendAll_143 ?_
      refine z_aload_n X 0 dX13_mendAll_144 rfl ?_
      refine gM_24 X K dX13_mendAll_145 ?_
      refine z_iload X 5 dX13_mendAll_148 rfl ?_
      obtain ⟨x5, h⟩ := h
      refine aM_17 X K dX13_mendAll_150 x5 ?_
      obtain ⟨x6, h⟩ := h
      refine sM_13 X K dX13_mendAll_151 x6 (fun σ7 eσ7 => ?_)
      have h := h σ7 eσ7
      refine z_iincK X K 5 (lv' := [(6, .int (iz (v6 + 1))), (0, .ref (ad 0)), (1, .int (iz v1)), (2, .int (iz v2)), (3, .int (iz v3)), (4, .int (iz v4))]) dX13_mendAll_152 rfl rfl rfl ?_
      refine z_goto (tgt := 119) X dX13_mendAll_155 rfl ?_
      exact z_sub [1, 2, 3, 4, 5, 0] rfl (hC119 _ _ _ _ _ _ h)
set_option maxRecDepth 100000 in
theorem wkm_mendAll_88 {Γ : ZG} {l : Launch} {D : va_G} {cr : List vw_C} {ds : Nat → ClassId} {ad : Nat → Nat} {post : Int → ZS → Prop} (X : ZX Γ cX13_mendAll RX13 5 99) (K : ZCap Γ l (ΘM D cr ds ad) 7 0 0) (hR : ZRetI Γ cX13_mendAll .boolean 0 0 (fun r σ => (r = 0 ∨ r = 1) ∧ post r σ)) {C20 : Int × Int × Int × Int × ZS → Prop} (hC20 : ∀ (v1 : Int) (v2 : Int) (v3 : Int) (v4 : Int) (σ : ZS), C20 (v1, v2, v3, v4, σ) → Z Γ 0 0 σ [] 20 [(0, .ref (ad 0)), (1, .int (iz v1)), (2, .int (iz v2)), (3, .int (iz v3)), (4, .int (iz v4))] []) {C43 : Int × Int × Int × Int × Int × Int × ZS → Prop} (hC43 : ∀ (v1 : Int) (v2 : Int) (v3 : Int) (v4 : Int) (v5 : Int) (v6 : Int) (σ : ZS), C43 (v1, v2, v3, v4, v5, v6, σ) → Z Γ 0 0 σ [] 43 [(0, .ref (ad 0)), (1, .int (iz v1)), (2, .int (iz v2)), (3, .int (iz v3)), (4, .int (iz v4)), (5, .int (iz v5)), (6, .int (iz v6))] []) (v1 : Int) (v2 : Int) (v3 : Int) (v4 : Int) (v6 : Int) (t0 : Int) (t1 : Int) (σ : ZS) (h : wm_mendAll_88 C20 C43 post v1 v2 v3 v4 v6 t0 t1 σ) : Z Γ 0 0 σ [] 88 [(0, .ref (ad 0)), (1, .int (iz v1)), (2, .int (iz v2)), (3, .int (iz v3)), (4, .int (iz v4)), (6, .int (iz v6))] [.int (iz t0), .int (iz t1)] := by
  refine z_iadd X dX13_mendAll_88 ?_
  refine z_topi (fun v5_1 ev5_1 => ?_)
  have h := h v5_1 ev5_1
  refine z_istoreK X K (lv' := [(5, .int (iz v5_1)), (0, .ref (ad 0)), (1, .int (iz v1)), (2, .int (iz v2)), (3, .int (iz v3)), (4, .int (iz v4)), (6, .int (iz v6))]) dX13_mendAll_89 rfl rfl ?_
  refine z_iload X 6 dX13_mendAll_91 rfl ?_
  refine z_aload_n X 1 dX13_mendAll_93 rfl ?_
  refine gM_4 X K dX13_mendAll_94 ?_
  refine z_iload_n X 2 dX13_mendAll_97 rfl ?_
  obtain ⟨x2, h⟩ := h
  refine aM_4 X K dX13_mendAll_98 x2 ?_
  refine z_iadd X dX13_mendAll_99 ?_
  refine z_topi (fun v6_3 ev6_3 => ?_)
  have h := h v6_3 ev6_3
  refine z_istoreK X K (lv' := [(6, .int (iz v6_3)), (5, .int (iz v5_1)), (0, .ref (ad 0)), (1, .int (iz v1)), (2, .int (iz v2)), (3, .int (iz v3)), (4, .int (iz v4))]) dX13_mendAll_100 rfl rfl ?_
  refine z_goto (tgt := 43) X dX13_mendAll_102 rfl ?_
  exact z_sub [2, 3, 4, 5, 6, 1, 0] rfl (hC43 _ _ _ _ _ _ _ h)
set_option maxRecDepth 100000 in
theorem wkm_mendAll_43 {Γ : ZG} {l : Launch} {D : va_G} {cr : List vw_C} {ds : Nat → ClassId} {ad : Nat → Nat} {post : Int → ZS → Prop} (X : ZX Γ cX13_mendAll RX13 5 99) (K : ZCap Γ l (ΘM D cr ds ad) 7 0 0) (hR : ZRetI Γ cX13_mendAll .boolean 0 0 (fun r σ => (r = 0 ∨ r = 1) ∧ post r σ)) {C20 : Int × Int × Int × Int × ZS → Prop} (hC20 : ∀ (v1 : Int) (v2 : Int) (v3 : Int) (v4 : Int) (σ : ZS), C20 (v1, v2, v3, v4, σ) → Z Γ 0 0 σ [] 20 [(0, .ref (ad 0)), (1, .int (iz v1)), (2, .int (iz v2)), (3, .int (iz v3)), (4, .int (iz v4))] []) : ∀ (N : Nat) (v1 : Int) (v2 : Int) (v3 : Int) (v4 : Int) (v5 : Int) (v6 : Int) (σ : ZS), zfix (wbm_mendAll_43 C20 post) N (v1, v2, v3, v4, v5, v6, σ) → Z Γ 0 0 σ [] 43 [(0, .ref (ad 0)), (1, .int (iz v1)), (2, .int (iz v2)), (3, .int (iz v3)), (4, .int (iz v4)), (5, .int (iz v5)), (6, .int (iz v6))] [] := by
  intro N
  induction N with
  | zero => intro v1 v2 v3 v4 v5 v6 σ h; exact False.elim h
  | succ N ih =>
    intro v1 v2 v3 v4 v5 v6 σ h
    have h : wbm_mendAll_43 C20 post (zfix (wbm_mendAll_43 C20 post) N) (v1, v2, v3, v4, v5, v6, σ) := h
    have hC43 := ih
    clear ih
    generalize zfix (wbm_mendAll_43 C20 post) N = C43 at h hC43
    dsimp only [wbm_mendAll_43] at h
    refine z_iload X 6 dX13_mendAll_43 rfl ?_
    refine z_iload_n X 2 dX13_mendAll_45 rfl ?_
    obtain ⟨i1, h⟩ := h
    obtain ⟨i2, h⟩ := h
    refine z_icmp_ge X 105 dX13_mendAll_46 rfl i1 i2 (fun c3 => ?_) (fun c3 => ?_)
    · have h := h.1 c3
      refine z_aload_n X 0 dX13_mendAll_105 rfl ?_
      refine z_iload X 5 dX13_mendAll_106 rfl ?_
      refine clm_mend X K rfl h (Nat.le_of_ble_eq_true rfl) dX13_mendAll_108 (fun r5 σ4 h => ?_)
      obtain ⟨b5, h⟩ := h
      have h := h b5
      refine z_if_ne X 116 dX13_mendAll_111 rfl (InR_b b5) (fun c7 => ?_) (fun c7 => ?_)
      · have h := h.1 c7
        refine z_iconst X 0 dX13_mendAll_116 ?_
        refine z_istoreK X K (lv' := [(6, .int (iz 0)), (0, .ref (ad 0)), (1, .int (iz v1)), (2, .int (iz v2)), (3, .int (iz v3)), (4, .int (iz v4)), (5, .int (iz v5))]) dX13_mendAll_117 rfl rfl ?_
        obtain ⟨N, h⟩ := h
        exact z_sub [1, 2, 3, 4, 5, 0] rfl (wkm_mendAll_119 X K hR hC20 N _ _ _ _ _ _ h)
      · have h := h.2 c7
        refine z_iconst X 0 dX13_mendAll_114 ?_
        exact hR _ _ _ _ _ _ _ dX13_mendAll_115 (z_nb (Or.inl rfl)) (Nat.le_refl 0) (Nat.le_refl 0) ⟨(Or.inl rfl), h⟩
    · have h := h.2 c3
      refine z_aload_n X 0 dX13_mendAll_49 rfl ?_
      refine gM_24 X K dX13_mendAll_50 ?_
      refine z_aload_n X 0 dX13_mendAll_53 rfl ?_
      refine gM_25 X K dX13_mendAll_54 ?_
      refine z_aload_n X 0 dX13_mendAll_57 rfl ?_
      refine gM_20 X K dX13_mendAll_58 ?_
      refine z_iload X 6 dX13_mendAll_61 rfl ?_
      obtain ⟨x8, h⟩ := h
      refine aM_13 X K dX13_mendAll_63 x8 ?_
      obtain ⟨x9, h⟩ := h
      refine sM_17 X K dX13_mendAll_64 x9 (fun σ10 eσ10 => ?_)
      have h := h σ10 eσ10
      refine z_aload_n X 0 dX13_mendAll_65 rfl ?_
      refine z_dup X dX13_mendAll_66 rfl ?_
      refine gM_25 X K dX13_mendAll_67 ?_
      refine z_iconst X 1 dX13_mendAll_70 ?_
      refine z_iadd X dX13_mendAll_71 ?_
      refine pM_25 X K dX13_mendAll_72 (fun σ11 eσ11 => ?_)
      have h := h σ11 eσ11
      refine z_iload X 5 dX13_mendAll_75 rfl ?_
      refine z_iload X 6 dX13_mendAll_77 rfl ?_
      refine z_iload_n X 3 dX13_mendAll_79 rfl ?_
      obtain ⟨i12, h⟩ := h
      refine z_icmp_ge X 87 dX13_mendAll_80 rfl i1 i12 (fun c13 => ?_) (fun c13 => ?_)
      · have h := h.1 c13
        refine z_iconst X 1 dX13_mendAll_87 ?_
        exact z_sub [0, 1, 2, 3, 4, 6] rfl (wkm_mendAll_88 X K hR hC20 hC43 _ _ _ _ _ _ _ _ h)
      · have h := h.2 c13
        refine z_iconst X 0 dX13_mendAll_83 ?_
        refine z_goto (tgt := 88) X dX13_mendAll_84 rfl ?_
        exact z_sub [0, 1, 2, 3, 4, 6] rfl (wkm_mendAll_88 X K hR hC20 hC43 _ _ _ _ _ _ _ _ h)
set_option maxRecDepth 100000 in
theorem wkm_mendAll_20 {Γ : ZG} {l : Launch} {D : va_G} {cr : List vw_C} {ds : Nat → ClassId} {ad : Nat → Nat} {post : Int → ZS → Prop} (X : ZX Γ cX13_mendAll RX13 5 99) (K : ZCap Γ l (ΘM D cr ds ad) 7 0 0) (hR : ZRetI Γ cX13_mendAll .boolean 0 0 (fun r σ => (r = 0 ∨ r = 1) ∧ post r σ)) : ∀ (N : Nat) (v1 : Int) (v2 : Int) (v3 : Int) (v4 : Int) (σ : ZS), zfix (wbm_mendAll_20 post) N (v1, v2, v3, v4, σ) → Z Γ 0 0 σ [] 20 [(0, .ref (ad 0)), (1, .int (iz v1)), (2, .int (iz v2)), (3, .int (iz v3)), (4, .int (iz v4))] [] := by
  intro N
  induction N with
  | zero => intro v1 v2 v3 v4 σ h; exact False.elim h
  | succ N ih =>
    intro v1 v2 v3 v4 σ h
    have h : wbm_mendAll_20 post (zfix (wbm_mendAll_20 post) N) (v1, v2, v3, v4, σ) := h
    have hC20 := ih
    clear ih
    generalize zfix (wbm_mendAll_20 post) N = C20 at h hC20
    dsimp only [wbm_mendAll_20] at h
    refine z_iload X 4 dX13_mendAll_20 rfl ?_
    refine z_aload_n X 0 dX13_mendAll_22 rfl ?_
    refine gM_4 X K dX13_mendAll_23 ?_
    refine z_iload_n X 1 dX13_mendAll_26 rfl ?_
    obtain ⟨x1, h⟩ := h
    refine aM_4 X K dX13_mendAll_27 x1 ?_
    obtain ⟨i2, h⟩ := h
    obtain ⟨i3, h⟩ := h
    refine z_icmp_ge X 164 dX13_mendAll_28 rfl i2 i3 (fun c4 => ?_) (fun c4 => ?_)
    · have h := h.1 c4
      refine z_iconst X 1 dX13_mendAll_164 ?_
      exact hR _ _ _ _ _ _ _ dX13_mendAll_165 (z_nb (Or.inr rfl)) (Nat.le_refl 0) (Nat.le_refl 0) ⟨(Or.inr rfl), h⟩
    · have h := h.2 c4
      refine z_aload_n X 0 dX13_mendAll_31 rfl ?_
      refine z_iconst X 0 dX13_mendAll_32 ?_
      refine pM_25 X K dX13_mendAll_33 (fun σ5 eσ5 => ?_)
      have h := h σ5 eσ5
      refine z_iconst X 0 dX13_mendAll_36 ?_
      refine z_istoreK X K (lv' := [(5, .int (iz 0)), (0, .ref (ad 0)), (1, .int (iz v1)), (2, .int (iz v2)), (3, .int (iz v3)), (4, .int (iz v4))]) dX13_mendAll_37 rfl rfl ?_
      refine z_iload X 5 dX13_mendAll_39 rfl ?_
      refine z_istoreK X K (lv' := [(6, .int (iz v4)), (5, .int (iz 0)), (0, .ref (ad 0)), (1, .int (iz v1)), (2, .int (iz v2)), (3, .int (iz v3)), (4, .int (iz v4))]) dX13_mendAll_41 rfl rfl ?_
      obtain ⟨N, h⟩ := h
      exact z_sub [2, 3, 4, 5, 6, 1, 0] rfl (wkm_mendAll_43 X K hR hC20 N _ _ _ _ _ _ _ h)
set_option maxRecDepth 100000 in
theorem mt_mendAll (l : Launch) (D : va_G) (cr : List vw_C) (ds : Nat → ClassId) (ad : Nat → Nat) (a0 : Int) (σ : ZS) (post : Int → ZS → Prop) (h : wm_mendAll a0 σ post) : ZMetI l (ΘM D cr ds ad) yX13_mendAll cX13_mendAll 7 .boolean 5 99 0 0 [.ref (ad 0), .int (iz a0)] σ (fun r σ => (r = 0 ∨ r = 1) ∧ post r σ) := by
  refine ZMetI.of (by decide) (Nat.le_of_ble_eq_true rfl) (fun Γ X K hR => ?_)
  have X : ZX Γ cX13_mendAll RX13 5 99 := X
  refine z_sub [0, 1] (lv' := [(0, .ref (ad 0)), (1, .int (iz a0))]) rfl ?_
  refine z_aload_n X 0 dX13_mendAll_0 rfl ?_
  refine z_iload_n X 1 dX13_mendAll_1 rfl ?_
  refine clm_allOf X K rfl h (Nat.le_of_ble_eq_true rfl) dX13_mendAll_2 (fun r2 σ1 h => ?_)
  refine z_istore_nK X K (lv' := [(2, .int (iz r2)), (0, .ref (ad 0)), (1, .int (iz a0))]) dX13_mendAll_5 rfl rfl ?_
  refine z_aload_n X 1 dX13_mendAll_6 rfl ?_
  refine z_iload_n X 2 dX13_mendAll_7 rfl ?_
  refine clm_dataOf X K rfl h (Nat.le_of_ble_eq_true rfl) dX13_mendAll_8 (fun r4 σ3 h => ?_)
  refine z_istore_nK X K (lv' := [(3, .int (iz r4)), (2, .int (iz r2)), (0, .ref (ad 0)), (1, .int (iz a0))]) dX13_mendAll_11 rfl rfl ?_
  refine z_aload_n X 2 dX13_mendAll_12 rfl ?_
  refine z_iconst X 0 dX13_mendAll_13 ?_
  refine pM_29 X K dX13_mendAll_14 (fun σ5 eσ5 => ?_)
  have h := h σ5 eσ5
  refine z_iconst X 0 dX13_mendAll_17 ?_
  refine z_istoreK X K (lv' := [(4, .int (iz 0)), (3, .int (iz r4)), (2, .int (iz r2)), (0, .ref (ad 0)), (1, .int (iz a0))]) dX13_mendAll_18 rfl rfl ?_
  obtain ⟨N, h⟩ := h
  exact z_sub [3, 4, 2, 1, 0] rfl (wkm_mendAll_20 X K hR N _ _ _ _ _ h)
set_option maxRecDepth 100000 in
theorem clm_mendAll {Γ : ZG} {cc : ByteArray} {fr lo nL pc : Nat} {lv : List (Nat × Value)} {st : List Value} {l : Launch} {D : va_G} {cr : List vw_C} {ds : Nat → ClassId} {ad : Nat → Nat} {a0 : Int} {σ : ZS} {post : Int → ZS → Prop} (X : ZX Γ cc RX13 fr lo) (K : ZCap Γ l (ΘM D cr ds ad) nL 0 0) (hrm : zroom 6 125 fr lo = true) (h : wm_mendAll a0 σ post) (hst : (st.map fun v => v.category).sum ≤ 8) (d : decode cc pc = .ok (.invokevirtual 291, 3)) (kk : ∀ (r : Int) (σ' : ZS), (fun r σ => (r = 0 ∨ r = 1) ∧ post r σ) r σ' → Z Γ 0 0 σ' [] (pc + 3) lv (.int (iz r) :: st)) : Z Γ 0 0 σ [] pc lv (.int (iz a0) :: .ref (ad 0) :: st) :=
  z_callVI' (C := RX13) (q0 := 0) X K (mt_mendAll l D cr ds ad a0 σ post h) (Nat.le_of_ble_eq_true rfl) rfl rfl rfl (lw_V q1543 q1545 qs67 q127 q1546) ⟨rfl, by decide, by decide, rfl⟩ (zroom_of hrm) ⟨Nat.zero_le _, Nat.zero_le _⟩ hst d rfl kk
/- X13_decode -/
set_option maxRecDepth 100000 in
theorem wkm_decode_25 {Γ : ZG} {l : Launch} {D : va_G} {cr : List vw_C} {ds : Nat → ClassId} {ad : Nat → Nat} {post : Int → ZS → Prop} (X : ZX Γ cX13_decode RX13 7 132) (K : ZCap Γ l (ΘM D cr ds ad) 2 0 0) (hR : ZRetI Γ cX13_decode .int 0 0 post) : ∀ (N : Nat) (v1 : Int) (σ : ZS), zfix (wbm_decode_25 post) N (v1, σ) → Z Γ 0 0 σ [] 25 [(0, .ref (ad 0)), (1, .int (iz v1))] [] := by
  intro N
  induction N with
  | zero => intro v1 σ h; exact False.elim h
  | succ N ih =>
    intro v1 σ h
    have h : wbm_decode_25 post (zfix (wbm_decode_25 post) N) (v1, σ) := h
    have hC25 := ih
    clear ih
    generalize zfix (wbm_decode_25 post) N = C25 at h hC25
    dsimp only [wbm_decode_25] at h
    refine z_iload_n X 1 dX13_decode_25 rfl ?_
    refine z_aload_n X 0 dX13_decode_26 rfl ?_
    refine z_aload_n X 0 dX13_decode_27 rfl ?_
    refine gM_18 X K dX13_decode_28 ?_
    refine clm_allOf X K rfl h (Nat.le_of_ble_eq_true rfl) dX13_decode_31 (fun r2 σ1 h => ?_)
    obtain ⟨i3, h⟩ := h
    obtain ⟨i4, h⟩ := h
    refine z_icmp_ge X 54 dX13_decode_34 rfl i3 i4 (fun c5 => ?_) (fun c5 => ?_)
    · have h := h.1 c5
      refine z_aload_n X 0 dX13_decode_54 rfl ?_
      refine z_aload_n X 0 dX13_decode_55 rfl ?_
      refine gM_18 X K dX13_decode_56 ?_
      refine clm_mendAll X K rfl h (Nat.le_of_ble_eq_true rfl) dX13_decode_59 (fun r7 σ6 h => ?_)
      obtain ⟨b7, h⟩ := h
      have h := h b7
      refine z_if_ne X 67 dX13_decode_62 rfl (InR_b b7) (fun c9 => ?_) (fun c9 => ?_)
      · have h := h.1 c9
        refine z_aload_n X 0 dX13_decode_67 rfl ?_
        refine z_aload_n X 0 dX13_decode_68 rfl ?_
        refine z_aload_n X 0 dX13_decode_69 rfl ?_
        refine gM_18 X K dX13_decode_70 ?_
        refine clm_dataOf X K rfl h (Nat.le_of_ble_eq_true rfl) dX13_decode_73 (fun r11 σ10 h => ?_)
        refine clm_readStream X K rfl h (Nat.le_of_ble_eq_true rfl) dX13_decode_76 (fun r13 σ12 h => ?_)
        refine z_istore_nK X K (lv' := [(1, .int (iz r13)), (0, .ref (ad 0))]) dX13_decode_79 rfl rfl ?_
        refine z_iload_n X 0 dX13_decode_80 rfl ?_
        obtain ⟨i14, h⟩ := h
        refine z_if_ge X 87 dX13_decode_81 rfl i14 (fun c15 => ?_) (fun c15 => ?_)
        · have h := h.1 c15
          refine z_aload_n X 1 dX13_decode_87 rfl ?_
          refine clm_keepRead X K rfl h (Nat.le_of_ble_eq_true rfl) dX13_decode_88 (fun σ16 h => ?_)
          refine z_aload_n X 1 dX13_decode_91 rfl ?_
          refine z_aload_n X 1 dX13_decode_92 rfl ?_
          refine gM_29 X K dX13_decode_93 ?_
          refine pM_40 X K dX13_decode_96 (fun σ17 eσ17 => ?_)
          have h := h σ17 eσ17
          refine z_iload_n X 0 dX13_decode_99 rfl ?_
          exact hR _ _ _ _ _ _ _ dX13_decode_100 rfl (Nat.le_refl 0) (Nat.le_refl 0) h
        · have h := h.2 c15
          refine z_bipush X (-2) dX13_decode_84 rfl ?_
          exact hR _ _ _ _ _ _ _ dX13_decode_86 rfl (Nat.le_refl 0) (Nat.le_refl 0) h
      · have h := h.2 c9
        refine z_iconst X (-1) dX13_decode_65 ?_
        exact hR _ _ _ _ _ _ _ dX13_decode_66 rfl (Nat.le_refl 0) (Nat.le_refl 0) h
    · have h := h.2 c5
      refine z_aload_n X 0 dX13_decode_37 rfl ?_
      refine gM_20 X K dX13_decode_38 ?_
      refine z_iload_n X 1 dX13_decode_41 rfl ?_
      refine z_aload_n X 0 dX13_decode_42 rfl ?_
      refine z_iload_n X 1 dX13_decode_43 rfl ?_
      refine clm_read X K rfl h (Nat.le_of_ble_eq_true rfl) dX13_decode_44 (fun r19 σ18 h => ?_)
      obtain ⟨x20, h⟩ := h
      refine sM_13 X K dX13_decode_47 x20 (fun σ21 eσ21 => ?_)
      have h := h σ21 eσ21
      refine z_iincK X K 1 (lv' := [(1, .int (iz (v1 + 1))), (0, .ref (ad 0))]) dX13_decode_48 rfl rfl rfl ?_
      refine z_goto (tgt := 25) X dX13_decode_51 rfl ?_
      exact z_sub [1, 0] rfl (hC25 _ _ h)
set_option maxRecDepth 100000 in
theorem mt_decode (l : Launch) (D : va_G) (cr : List vw_C) (ds : Nat → ClassId) (ad : Nat → Nat) (σ : ZS) (post : Int → ZS → Prop) (h : wm_decode  σ post) : ZMetI l (ΘM D cr ds ad) yX13_decode cX13_decode 2 .int 7 132 0 0 [.ref (ad 0)] σ post := by
  refine ZMetI.of (by decide) (Nat.le_of_ble_eq_true rfl) (fun Γ X K hR => ?_)
  have X : ZX Γ cX13_decode RX13 7 132 := X
  refine z_sub [0] (lv' := [(0, .ref (ad 0))]) rfl ?_
  refine z_aload_n X 0 dX13_decode_0 rfl ?_
  refine z_iconst X 0 dX13_decode_1 ?_
  refine pM_0 X K dX13_decode_2 (fun σ1 eσ1 => ?_)
  have h := h σ1 eσ1
  refine z_aload_n X 0 dX13_decode_5 rfl ?_
  refine gM_18 X K dX13_decode_6 ?_
  obtain ⟨i2, h⟩ := h
  refine z_if_ge X 15 dX13_decode_9 rfl i2 (fun c3 => ?_) (fun c3 => ?_)
  · have h := h.1 c3
    refine z_aload_n X 0 dX13_decode_15 rfl ?_
    refine z_aload_n X 0 dX13_decode_16 rfl ?_
    refine gM_18 X K dX13_decode_17 ?_
    refine clm_map X K rfl h (Nat.le_of_ble_eq_true rfl) dX13_decode_20 (fun σ4 h => ?_)
    refine z_iconst X 0 dX13_decode_23 ?_
    refine z_istore_nK X K (lv' := [(1, .int (iz 0)), (0, .ref (ad 0))]) dX13_decode_24 rfl rfl ?_
    obtain ⟨N, h⟩ := h
    exact z_sub [1, 0] rfl (wkm_decode_25 X K hR N _ _ h)
  · have h := h.2 c3
    refine z_bipush X (-3) dX13_decode_12 rfl ?_
    exact hR _ _ _ _ _ _ _ dX13_decode_14 rfl (Nat.le_refl 0) (Nat.le_refl 0) h
/- X13_letter -/
set_option maxRecDepth 100000 in
theorem mt_letter (l : Launch) (D : va_G) (cr : List vw_C) (ds : Nat → ClassId) (ad : Nat → Nat) (a0 : Int) (σ : ZS) (post : Int → ZS → Prop) (h : wm_letter a0 σ post) : ZMetI l (ΘM D cr ds ad) yX13_letter cX13_letter 2 .int 1 0 0 0 [.ref (ad 0), .int (iz a0)] σ post := by
  refine ZMetI.of (by decide) (Nat.le_of_ble_eq_true rfl) (fun Γ X K hR => ?_)
  have X : ZX Γ cX13_letter RX13 1 0 := X
  refine z_sub [0, 1] (lv' := [(0, .ref (ad 0)), (1, .int (iz a0))]) rfl ?_
  refine z_aload_n X 0 dX13_letter_0 rfl ?_
  refine z_iconst X 0 dX13_letter_1 ?_
  refine pM_0 X K dX13_letter_2 (fun σ1 eσ1 => ?_)
  have h := h σ1 eσ1
  refine z_iload_n X 1 dX13_letter_5 rfl ?_
  obtain ⟨i2, h⟩ := h
  refine z_if_lt X 17 dX13_letter_6 rfl i2 (fun c3 => ?_) (fun c3 => ?_)
  · have h := h.1 c3
    refine z_iconst X (-1) dX13_letter_17 ?_
    refine z_goto (tgt := 27) X dX13_letter_18 rfl ?_
    exact hR _ _ _ _ _ _ _ dX13_letter_27 rfl (Nat.le_refl 0) (Nat.le_refl 0) h
  · have h := h.2 c3
    refine z_iload_n X 1 dX13_letter_9 rfl ?_
    refine z_aload_n X 0 dX13_letter_10 rfl ?_
    refine gM_33 X K dX13_letter_11 ?_
    obtain ⟨i4, h⟩ := h
    refine z_icmp_lt X 21 dX13_letter_14 rfl i2 i4 (fun c5 => ?_) (fun c5 => ?_)
    · have h := h.1 c5
      refine z_aload_n X 0 dX13_letter_21 rfl ?_
      refine gM_32 X K dX13_letter_22 ?_
      refine z_iload_n X 1 dX13_letter_25 rfl ?_
      obtain ⟨x6, h⟩ := h
      refine aM_22 X K dX13_letter_26 x6 ?_
      exact hR _ _ _ _ _ _ _ dX13_letter_27 rfl (Nat.le_refl 0) (Nat.le_refl 0) h
    · have h := h.2 c5
      refine z_iconst X (-1) dX13_letter_17 ?_
      refine z_goto (tgt := 27) X dX13_letter_18 rfl ?_
      exact hR _ _ _ _ _ _ _ dX13_letter_27 rfl (Nat.le_refl 0) (Nat.le_refl 0) h
/- X13_note -/
set_option maxRecDepth 100000 in
theorem wkm_note_57 {Γ : ZG} {l : Launch} {D : va_G} {cr : List vw_C} {ds : Nat → ClassId} {ad : Nat → Nat} {post : ZS → Prop} (X : ZX Γ cX13_note RX13 1 0) (K : ZCap Γ l (ΘM D cr ds ad) 5 0 0) (hR : ZRetV Γ cX13_note 0 0 post) (v1 : Int) (v2 : Int) (v3 : Int) (v4 : Int) (σ : ZS) (h : wm_note_57 post v1 v2 v3 v4 σ) : Z Γ 0 0 σ [] 57 [(0, .ref (ad 0)), (1, .int (iz v1)), (2, .int (iz v2)), (3, .int (iz v3)), (4, .int (iz v4))] [] := by
  refine z_aload_n X 0 dX13_note_57 rfl ?_
  refine gM_54 X K dX13_note_58 ?_
  refine z_aload_n X 0 dX13_note_61 rfl ?_
  refine gM_53 X K dX13_note_62 ?_
  refine z_iload_n X 1 dX13_note_65 rfl ?_
  obtain ⟨x1, h⟩ := h
  refine sM_28 X K dX13_note_66 x1 (fun σ2 eσ2 => ?_)
  have h := h σ2 eσ2
  refine z_aload_n X 0 dX13_note_67 rfl ?_
  refine gM_55 X K dX13_note_68 ?_
  refine z_aload_n X 0 dX13_note_71 rfl ?_
  refine gM_53 X K dX13_note_72 ?_
  refine z_iload_n X 2 dX13_note_75 rfl ?_
  obtain ⟨x3, h⟩ := h
  refine sM_29 X K dX13_note_76 x3 (fun σ4 eσ4 => ?_)
  have h := h σ4 eσ4
  refine z_aload_n X 0 dX13_note_77 rfl ?_
  refine gM_56 X K dX13_note_78 ?_
  refine z_aload_n X 0 dX13_note_81 rfl ?_
  refine gM_53 X K dX13_note_82 ?_
  refine z_iload_n X 3 dX13_note_85 rfl ?_
  obtain ⟨x5, h⟩ := h
  refine sM_30 X K dX13_note_86 x5 (fun σ6 eσ6 => ?_)
  have h := h σ6 eσ6
  refine z_aload_n X 0 dX13_note_87 rfl ?_
  refine gM_57 X K dX13_note_88 ?_
  refine z_aload_n X 0 dX13_note_91 rfl ?_
  refine gM_53 X K dX13_note_92 ?_
  refine z_iload X 4 dX13_note_95 rfl ?_
  obtain ⟨x7, h⟩ := h
  refine sM_31 X K dX13_note_97 x7 (fun σ8 eσ8 => ?_)
  have h := h σ8 eσ8
  refine z_aload_n X 0 dX13_note_98 rfl ?_
  refine z_dup X dX13_note_99 rfl ?_
  refine gM_53 X K dX13_note_100 ?_
  refine z_iconst X 1 dX13_note_103 ?_
  refine z_iadd X dX13_note_104 ?_
  refine pM_53 X K dX13_note_105 (fun σ9 eσ9 => ?_)
  have h := h σ9 eσ9
  exact hR _ _ _ _ _ _ dX13_note_108 (Nat.le_refl 0) (Nat.le_refl 0) h
set_option maxRecDepth 100000 in
theorem mt_note (l : Launch) (D : va_G) (cr : List vw_C) (ds : Nat → ClassId) (ad : Nat → Nat) (a0 : Int) (a1 : Int) (a2 : Int) (a3 : Int) (σ : ZS) (post : ZS → Prop) (h : wm_note a0 a1 a2 a3 σ post) : ZMetV l (ΘM D cr ds ad) yX13_note cX13_note 5 1 0 0 0 [.ref (ad 0), .int (iz a0), .int (iz a1), .int (iz a2), .int (iz a3)] σ post := by
  refine ZMetV.of (by decide) (Nat.le_of_ble_eq_true rfl) (fun Γ X K hR => ?_)
  have X : ZX Γ cX13_note RX13 1 0 := X
  refine z_sub [0, 1, 2, 3, 4] (lv' := [(0, .ref (ad 0)), (1, .int (iz a0)), (2, .int (iz a1)), (3, .int (iz a2)), (4, .int (iz a3))]) rfl ?_
  refine z_iload_n X 1 dX13_note_0 rfl ?_
  obtain ⟨i1, h⟩ := h
  refine z_if_ne X 57 dX13_note_1 rfl i1 (fun c2 => ?_) (fun c2 => ?_)
  · have h := h.1 c2
    exact z_sub [0, 1, 2, 3, 4] rfl (wkm_note_57 X K hR _ _ _ _ _ h)
  · have h := h.2 c2
    refine z_aload_n X 0 dX13_note_4 rfl ?_
    refine gM_53 X K dX13_note_5 ?_
    obtain ⟨i3, h⟩ := h
    refine z_if_le X 57 dX13_note_8 rfl i3 (fun c4 => ?_) (fun c4 => ?_)
    · have h := h.1 c4
      exact z_sub [0, 1, 2, 3, 4] rfl (wkm_note_57 X K hR _ _ _ _ _ h)
    · have h := h.2 c4
      refine z_aload_n X 0 dX13_note_11 rfl ?_
      refine gM_54 X K dX13_note_12 ?_
      refine z_aload_n X 0 dX13_note_15 rfl ?_
      refine gM_53 X K dX13_note_16 ?_
      refine z_iconst X 1 dX13_note_19 ?_
      refine z_isub X dX13_note_20 ?_
      obtain ⟨x5, h⟩ := h
      refine aM_28 X K dX13_note_21 x5 ?_
      obtain ⟨i6, h⟩ := h
      refine z_if_ne X 57 dX13_note_22 rfl i6 (fun c7 => ?_) (fun c7 => ?_)
      · have h := h.1 c7
        exact z_sub [0, 1, 2, 3, 4] rfl (wkm_note_57 X K hR _ _ _ _ _ h)
      · have h := h.2 c7
        refine z_aload_n X 0 dX13_note_25 rfl ?_
        refine gM_56 X K dX13_note_26 ?_
        refine z_aload_n X 0 dX13_note_29 rfl ?_
        refine gM_53 X K dX13_note_30 ?_
        refine z_iconst X 1 dX13_note_33 ?_
        refine z_isub X dX13_note_34 ?_
        refine z_dup2 X dX13_note_35 rfl rfl ?_
        refine aM_30 X K dX13_note_36 x5 ?_
        refine z_iload_n X 3 dX13_note_37 rfl ?_
        refine z_iadd X dX13_note_38 ?_
        refine sM_30 X K dX13_note_39 x5 (fun σ8 eσ8 => ?_)
        have h := h σ8 eσ8
        refine z_aload_n X 0 dX13_note_40 rfl ?_
        refine gM_57 X K dX13_note_41 ?_
        refine z_aload_n X 0 dX13_note_44 rfl ?_
        refine gM_53 X K dX13_note_45 ?_
        refine z_iconst X 1 dX13_note_48 ?_
        refine z_isub X dX13_note_49 ?_
        refine z_dup2 X dX13_note_50 rfl rfl ?_
        obtain ⟨x9, h⟩ := h
        refine aM_31 X K dX13_note_51 x9 ?_
        refine z_iload X 4 dX13_note_52 rfl ?_
        refine z_iadd X dX13_note_54 ?_
        refine sM_31 X K dX13_note_55 x9 (fun σ10 eσ10 => ?_)
        have h := h σ10 eσ10
        exact hR _ _ _ _ _ _ dX13_note_56 (Nat.le_refl 0) (Nat.le_refl 0) h
set_option maxRecDepth 100000 in
theorem clm_note {Γ : ZG} {cc : ByteArray} {fr lo nL pc : Nat} {lv : List (Nat × Value)} {st : List Value} {l : Launch} {D : va_G} {cr : List vw_C} {ds : Nat → ClassId} {ad : Nat → Nat} {a0 : Int} {a1 : Int} {a2 : Int} {a3 : Int} {σ : ZS} {post : ZS → Prop} (X : ZX Γ cc RX13 fr lo) (K : ZCap Γ l (ΘM D cr ds ad) nL 0 0) (hrm : zroom 2 24 fr lo = true) (h : wm_note a0 a1 a2 a3 σ post) (hst : (st.map fun v => v.category).sum ≤ 8) (d : decode cc pc = .ok (.invokevirtual 378, 3)) (kk : ∀ (σ' : ZS), post σ' → Z Γ 0 0 σ' [] (pc + 3) lv (st)) : Z Γ 0 0 σ [] pc lv (.int (iz a3) :: .int (iz a2) :: .int (iz a1) :: .int (iz a0) :: .ref (ad 0) :: st) :=
  z_callVV' (C := RX13) (q0 := 0) X K (mt_note l D cr ds ad a0 a1 a2 a3 σ post h) (Nat.le_of_ble_eq_true rfl) rfl rfl rfl (lw_V q1709 q1711 qs103 q127 q1712) ⟨rfl, by decide, by decide, rfl⟩ (zroom_of hrm) ⟨Nat.zero_le _, Nat.zero_le _⟩ hst d rfl kk
/- X13_has -/
set_option maxRecDepth 100000 in
theorem mt_has (l : Launch) (D : va_G) (cr : List vw_C) (ds : Nat → ClassId) (ad : Nat → Nat) (a0 : Int) (a1 : Int) (a2 : Int) (σ : ZS) (post : Int → ZS → Prop) (h : wm_has a0 a1 a2 σ post) : ZMetI l (ΘM D cr ds ad) yX13_has cX13_has 5 .boolean 1 0 0 0 [.ref (ad 0), .int (iz a0), .int (iz a1), .int (iz a2)] σ (fun r σ => (r = 0 ∨ r = 1) ∧ post r σ) := by
  refine ZMetI.of (by decide) (Nat.le_of_ble_eq_true rfl) (fun Γ X K hR => ?_)
  have X : ZX Γ cX13_has RX13 1 0 := X
  refine z_sub [0, 1, 2, 3] (lv' := [(0, .ref (ad 0)), (1, .int (iz a0)), (2, .int (iz a1)), (3, .int (iz a2))]) rfl ?_
  refine z_iload_n X 3 dX13_has_0 rfl ?_
  refine z_aload_n X 0 dX13_has_1 rfl ?_
  refine gM_41 X K dX13_has_2 ?_
  refine z_sipush X 3201 dX13_has_5 rfl ?_
  refine z_iload_n X 1 dX13_has_8 rfl ?_
  refine z_imul X dX13_has_9 ?_
  refine z_iload_n X 2 dX13_has_10 rfl ?_
  refine z_iadd X dX13_has_11 ?_
  obtain ⟨x1, h⟩ := h
  refine aM_23 X K dX13_has_12 x1 ?_
  refine z_isub X dX13_has_13 ?_
  refine z_topi (fun v4_2 ev4_2 => ?_)
  have h := h v4_2 ev4_2
  refine z_istoreK X K (lv' := [(4, .int (iz v4_2)), (0, .ref (ad 0)), (1, .int (iz a0)), (2, .int (iz a1)), (3, .int (iz a2))]) dX13_has_14 rfl rfl ?_
  refine z_aload_n X 1 dX13_has_16 rfl ?_
  refine gM_42 X K dX13_has_17 ?_
  refine z_sipush X 3201 dX13_has_20 rfl ?_
  refine z_iload_n X 2 dX13_has_23 rfl ?_
  refine z_imul X dX13_has_24 ?_
  refine z_iload_n X 3 dX13_has_25 rfl ?_
  refine z_iadd X dX13_has_26 ?_
  refine aM_24 X K dX13_has_27 x1 ?_
  obtain ⟨i3, h⟩ := h
  refine z_if_eq X 68 dX13_has_28 rfl i3 (fun c4 => ?_) (fun c4 => ?_)
  · have h := h.1 c4
    refine z_iconst X 0 dX13_has_68 ?_
    exact hR _ _ _ _ _ _ _ dX13_has_69 (z_nb (Or.inl rfl)) (Nat.le_refl 0) (Nat.le_refl 0) ⟨(Or.inl rfl), h⟩
  · have h := h.2 c4
    refine z_iload X 0 dX13_has_31 rfl ?_
    obtain ⟨i5, h⟩ := h
    refine z_if_lt X 68 dX13_has_33 rfl i5 (fun c6 => ?_) (fun c6 => ?_)
    · have h := h.1 c6
      refine z_iconst X 0 dX13_has_68 ?_
      exact hR _ _ _ _ _ _ _ dX13_has_69 (z_nb (Or.inl rfl)) (Nat.le_refl 0) (Nat.le_refl 0) ⟨(Or.inl rfl), h⟩
    · have h := h.2 c6
      refine z_iload X 0 dX13_has_36 rfl ?_
      refine z_bipush X 31 dX13_has_38 rfl ?_
      refine z_icmp_ge X 68 dX13_has_40 rfl i5 (by decide) (fun c7 => ?_) (fun c7 => ?_)
      · have h := h.1 c7
        refine z_iconst X 0 dX13_has_68 ?_
        exact hR _ _ _ _ _ _ _ dX13_has_69 (z_nb (Or.inl rfl)) (Nat.le_refl 0) (Nat.le_refl 0) ⟨(Or.inl rfl), h⟩
      · have h := h.2 c7
        refine z_aload_n X 1 dX13_has_43 rfl ?_
        refine gM_42 X K dX13_has_44 ?_
        refine z_sipush X 3201 dX13_has_47 rfl ?_
        refine z_iload_n X 2 dX13_has_50 rfl ?_
        refine z_imul X dX13_has_51 ?_
        refine z_iload_n X 3 dX13_has_52 rfl ?_
        refine z_iadd X dX13_has_53 ?_
        refine aM_24 X K dX13_has_54 x1 ?_
        refine z_iload X 0 dX13_has_55 rfl ?_
        refine z_ishr X dX13_has_57 ?_
        refine z_iconst X 1 dX13_has_58 ?_
        refine z_iandm X 1 (M := 2) rfl rfl rfl dX13_has_59 ?_
        refine z_iconst X 1 dX13_has_60 ?_
        obtain ⟨i8, h⟩ := h
        refine z_icmp_ne X 68 dX13_has_61 rfl i8 (by decide) (fun c9 => ?_) (fun c9 => ?_)
        · have h := h.1 c9
          refine z_iconst X 0 dX13_has_68 ?_
          exact hR _ _ _ _ _ _ _ dX13_has_69 (z_nb (Or.inl rfl)) (Nat.le_refl 0) (Nat.le_refl 0) ⟨(Or.inl rfl), h⟩
        · have h := h.2 c9
          refine z_iconst X 1 dX13_has_64 ?_
          refine z_goto (tgt := 69) X dX13_has_65 rfl ?_
          exact hR _ _ _ _ _ _ _ dX13_has_69 (z_nb (Or.inr rfl)) (Nat.le_refl 0) (Nat.le_refl 0) ⟨(Or.inr rfl), h⟩
set_option maxRecDepth 100000 in
theorem clm_has {Γ : ZG} {cc : ByteArray} {fr lo nL pc : Nat} {lv : List (Nat × Value)} {st : List Value} {l : Launch} {D : va_G} {cr : List vw_C} {ds : Nat → ClassId} {ad : Nat → Nat} {a0 : Int} {a1 : Int} {a2 : Int} {σ : ZS} {post : Int → ZS → Prop} (X : ZX Γ cc RX13 fr lo) (K : ZCap Γ l (ΘM D cr ds ad) nL 0 0) (hrm : zroom 2 24 fr lo = true) (h : wm_has a0 a1 a2 σ post) (hst : (st.map fun v => v.category).sum ≤ 8) (d : decode cc pc = .ok (.invokevirtual 359, 3)) (kk : ∀ (r : Int) (σ' : ZS), (fun r σ => (r = 0 ∨ r = 1) ∧ post r σ) r σ' → Z Γ 0 0 σ' [] (pc + 3) lv (.int (iz r) :: st)) : Z Γ 0 0 σ [] pc lv (.int (iz a2) :: .int (iz a1) :: .int (iz a0) :: .ref (ad 0) :: st) :=
  z_callVI' (C := RX13) (q0 := 0) X K (mt_has l D cr ds ad a0 a1 a2 σ post h) (Nat.le_of_ble_eq_true rfl) rfl rfl rfl (lw_V q1654 q1656 qs90 q127 q1657) ⟨rfl, by decide, by decide, rfl⟩ (zroom_of hrm) ⟨Nat.zero_le _, Nat.zero_le _⟩ hst d rfl kk
/- X13_isDigit -/
set_option maxRecDepth 100000 in
theorem mt_isDigit (l : Launch) (D : va_G) (cr : List vw_C) (ds : Nat → ClassId) (ad : Nat → Nat) (a0 : Int) (σ : ZS) (post : Int → ZS → Prop) (h : wm_isDigit a0 σ post) : ZMetI l (ΘM D cr ds ad) yX13_isDigit cX13_isDigit 1 .boolean 1 0 0 0 [.int (iz a0)] σ (fun r σ => (r = 0 ∨ r = 1) ∧ post r σ) := by
  refine ZMetI.of (by decide) (Nat.le_of_ble_eq_true rfl) (fun Γ X K hR => ?_)
  have X : ZX Γ cX13_isDigit RX13 1 0 := X
  refine z_sub [0] (lv' := [(0, .int (iz a0))]) rfl ?_
  refine z_iload_n X 0 dX13_isDigit_0 rfl ?_
  refine z_bipush X 48 dX13_isDigit_1 rfl ?_
  obtain ⟨i1, h⟩ := h
  refine z_icmp_lt X 16 dX13_isDigit_3 rfl i1 (by decide) (fun c2 => ?_) (fun c2 => ?_)
  · have h := h.1 c2
    refine z_iconst X 0 dX13_isDigit_16 ?_
    exact hR _ _ _ _ _ _ _ dX13_isDigit_17 (z_nb (Or.inl rfl)) (Nat.le_refl 0) (Nat.le_refl 0) ⟨(Or.inl rfl), h⟩
  · have h := h.2 c2
    refine z_iload_n X 0 dX13_isDigit_6 rfl ?_
    refine z_bipush X 57 dX13_isDigit_7 rfl ?_
    refine z_icmp_gt X 16 dX13_isDigit_9 rfl i1 (by decide) (fun c3 => ?_) (fun c3 => ?_)
    · have h := h.1 c3
      refine z_iconst X 0 dX13_isDigit_16 ?_
      exact hR _ _ _ _ _ _ _ dX13_isDigit_17 (z_nb (Or.inl rfl)) (Nat.le_refl 0) (Nat.le_refl 0) ⟨(Or.inl rfl), h⟩
    · have h := h.2 c3
      refine z_iconst X 1 dX13_isDigit_12 ?_
      refine z_goto (tgt := 17) X dX13_isDigit_13 rfl ?_
      exact hR _ _ _ _ _ _ _ dX13_isDigit_17 (z_nb (Or.inr rfl)) (Nat.le_refl 0) (Nat.le_refl 0) ⟨(Or.inr rfl), h⟩
set_option maxRecDepth 100000 in
theorem clm_isDigit {Γ : ZG} {cc : ByteArray} {fr lo nL pc : Nat} {lv : List (Nat × Value)} {st : List Value} {l : Launch} {D : va_G} {cr : List vw_C} {ds : Nat → ClassId} {ad : Nat → Nat} {a0 : Int} {σ : ZS} {post : Int → ZS → Prop} (X : ZX Γ cc RX13 fr lo) (K : ZCap Γ l (ΘM D cr ds ad) nL 0 0) (hrm : zroom 2 20 fr lo = true) (h : wm_isDigit a0 σ post) (hst : (st.map fun v => v.category).sum ≤ 8) (d : decode cc pc = .ok (.invokestatic 314, 3)) (kk : ∀ (r : Int) (σ' : ZS), (fun r σ => (r = 0 ∨ r = 1) ∧ post r σ) r σ' → Z Γ 0 0 σ' [] (pc + 3) lv (.int (iz r) :: st)) : Z Γ 0 0 σ [] pc lv (.int (iz a0) :: st) :=
  z_callSI' X K (mt_isDigit l D cr ds ad a0 σ post h) (lw_S q1605 q1606 q127 q1607) ⟨by decide, by decide, rfl⟩ (zroom_of hrm) ⟨Nat.zero_le _, Nat.zero_le _⟩ hst d rfl kk
/- X13_isDigits -/
set_option maxRecDepth 100000 in
theorem mt_isDigits (l : Launch) (D : va_G) (cr : List vw_C) (ds : Nat → ClassId) (ad : Nat → Nat) (a0 : Int) (σ : ZS) (post : Int → ZS → Prop) (h : wm_isDigits a0 σ post) : ZMetI l (ΘM D cr ds ad) yX13_isDigits cX13_isDigits 2 .boolean 2 20 0 0 [.ref (ad 0), .int (iz a0)] σ (fun r σ => (r = 0 ∨ r = 1) ∧ post r σ) := by
  refine ZMetI.of (by decide) (Nat.le_of_ble_eq_true rfl) (fun Γ X K hR => ?_)
  have X : ZX Γ cX13_isDigits RX13 2 20 := X
  refine z_sub [0, 1] (lv' := [(0, .ref (ad 0)), (1, .int (iz a0))]) rfl ?_
  refine z_iload_n X 1 dX13_isDigits_0 rfl ?_
  refine z_iconst X 1 dX13_isDigits_1 ?_
  refine z_iadd X dX13_isDigits_2 ?_
  refine z_aload_n X 0 dX13_isDigits_3 rfl ?_
  refine gM_11 X K dX13_isDigits_4 ?_
  obtain ⟨i1, h⟩ := h
  obtain ⟨i2, h⟩ := h
  refine z_icmp_ge X 40 dX13_isDigits_7 rfl i1 i2 (fun c3 => ?_) (fun c3 => ?_)
  · have h := h.1 c3
    refine z_iconst X 0 dX13_isDigits_40 ?_
    exact hR _ _ _ _ _ _ _ dX13_isDigits_41 (z_nb (Or.inl rfl)) (Nat.le_refl 0) (Nat.le_refl 0) ⟨(Or.inl rfl), h⟩
  · have h := h.2 c3
    refine z_aload_n X 0 dX13_isDigits_10 rfl ?_
    refine gM_9 X K dX13_isDigits_11 ?_
    refine z_iload_n X 1 dX13_isDigits_14 rfl ?_
    obtain ⟨x4, h⟩ := h
    refine aM_9 X K dX13_isDigits_15 x4 ?_
    refine clm_isDigit X K rfl h (Nat.le_of_ble_eq_true rfl) dX13_isDigits_16 (fun r6 σ5 h => ?_)
    obtain ⟨b6, h⟩ := h
    have h := h b6
    refine z_if_eq X 40 dX13_isDigits_19 rfl (InR_b b6) (fun c8 => ?_) (fun c8 => ?_)
    · have h := h.1 c8
      refine z_iconst X 0 dX13_isDigits_40 ?_
      exact hR _ _ _ _ _ _ _ dX13_isDigits_41 (z_nb (Or.inl rfl)) (Nat.le_refl 0) (Nat.le_refl 0) ⟨(Or.inl rfl), h⟩
    · have h := h.2 c8
      refine z_aload_n X 0 dX13_isDigits_22 rfl ?_
      refine gM_9 X K dX13_isDigits_23 ?_
      refine z_iload_n X 1 dX13_isDigits_26 rfl ?_
      refine z_iconst X 1 dX13_isDigits_27 ?_
      refine z_iadd X dX13_isDigits_28 ?_
      obtain ⟨x9, h⟩ := h
      refine aM_9 X K dX13_isDigits_29 x9 ?_
      refine clm_isDigit X K rfl h (Nat.le_of_ble_eq_true rfl) dX13_isDigits_30 (fun r11 σ10 h => ?_)
      obtain ⟨b11, h⟩ := h
      have h := h b11
      refine z_if_eq X 40 dX13_isDigits_33 rfl (InR_b b11) (fun c13 => ?_) (fun c13 => ?_)
      · have h := h.1 c13
        refine z_iconst X 0 dX13_isDigits_40 ?_
        exact hR _ _ _ _ _ _ _ dX13_isDigits_41 (z_nb (Or.inl rfl)) (Nat.le_refl 0) (Nat.le_refl 0) ⟨(Or.inl rfl), h⟩
      · have h := h.2 c13
        refine z_iconst X 1 dX13_isDigits_36 ?_
        refine z_goto (tgt := 41) X dX13_isDigits_37 rfl ?_
        exact hR _ _ _ _ _ _ _ dX13_isDigits_41 (z_nb (Or.inr rfl)) (Nat.le_refl 0) (Nat.le_refl 0) ⟨(Or.inr rfl), h⟩
set_option maxRecDepth 100000 in
theorem clm_isDigits {Γ : ZG} {cc : ByteArray} {fr lo nL pc : Nat} {lv : List (Nat × Value)} {st : List Value} {l : Launch} {D : va_G} {cr : List vw_C} {ds : Nat → ClassId} {ad : Nat → Nat} {a0 : Int} {σ : ZS} {post : Int → ZS → Prop} (X : ZX Γ cc RX13 fr lo) (K : ZCap Γ l (ΘM D cr ds ad) nL 0 0) (hrm : zroom 3 41 fr lo = true) (h : wm_isDigits a0 σ post) (hst : (st.map fun v => v.category).sum ≤ 8) (d : decode cc pc = .ok (.invokevirtual 311, 3)) (kk : ∀ (r : Int) (σ' : ZS), (fun r σ => (r = 0 ∨ r = 1) ∧ post r σ) r σ' → Z Γ 0 0 σ' [] (pc + 3) lv (.int (iz r) :: st)) : Z Γ 0 0 σ [] pc lv (.int (iz a0) :: .ref (ad 0) :: st) :=
  z_callVI' (C := RX13) (q0 := 0) X K (mt_isDigits l D cr ds ad a0 σ post h) (Nat.le_of_ble_eq_true rfl) rfl rfl rfl (lw_V q1601 q1603 qs79 q127 q1604) ⟨rfl, by decide, by decide, rfl⟩ (zroom_of hrm) ⟨Nat.zero_le _, Nat.zero_le _⟩ hst d rfl kk
/- X13_isTail -/
set_option maxRecDepth 100000 in
theorem wkm_isTail_12 {Γ : ZG} {l : Launch} {D : va_G} {cr : List vw_C} {ds : Nat → ClassId} {ad : Nat → Nat} {post : Int → ZS → Prop} (X : ZX Γ cX13_isTail RX13 3 41) (K : ZCap Γ l (ΘM D cr ds ad) 4 0 0) (hR : ZRetI Γ cX13_isTail .boolean 0 0 (fun r σ => (r = 0 ∨ r = 1) ∧ post r σ)) (v1 : Int) (v2 : Int) (σ : ZS) (h : wm_isTail_12 post v1 v2 σ) : Z Γ 0 0 σ [] 12 [(0, .ref (ad 0)), (1, .int (iz v1)), (2, .int (iz v2))] [] := by
  refine z_iload_n X 2 dX13_isTail_12 rfl ?_
  obtain ⟨i1, h⟩ := h
  refine z_if_ne X 28 dX13_isTail_13 rfl i1 (fun c2 => ?_) (fun c2 => ?_)
  · have h := h.1 c2
    refine z_iconst X 0 dX13_isTail_28 ?_
    exact hR _ _ _ _ _ _ _ dX13_isTail_29 (z_nb (Or.inl rfl)) (Nat.le_refl 0) (Nat.le_refl 0) ⟨(Or.inl rfl), h⟩
  · have h := h.2 c2
    refine z_iload_n X 1 dX13_isTail_16 rfl ?_
    refine z_aload_n X 0 dX13_isTail_17 rfl ?_
    refine gM_11 X K dX13_isTail_18 ?_
    obtain ⟨i3, h⟩ := h
    obtain ⟨i4, h⟩ := h
    refine z_icmp_ne X 28 dX13_isTail_21 rfl i3 i4 (fun c5 => ?_) (fun c5 => ?_)
    · have h := h.1 c5
      refine z_iconst X 0 dX13_isTail_28 ?_
      exact hR _ _ _ _ _ _ _ dX13_isTail_29 (z_nb (Or.inl rfl)) (Nat.le_refl 0) (Nat.le_refl 0) ⟨(Or.inl rfl), h⟩
    · have h := h.2 c5
      refine z_iconst X 1 dX13_isTail_24 ?_
      refine z_goto (tgt := 29) X dX13_isTail_25 rfl ?_
      exact hR _ _ _ _ _ _ _ dX13_isTail_29 (z_nb (Or.inr rfl)) (Nat.le_refl 0) (Nat.le_refl 0) ⟨(Or.inr rfl), h⟩
set_option maxRecDepth 100000 in
theorem wkm_isTail_203 {Γ : ZG} {l : Launch} {D : va_G} {cr : List vw_C} {ds : Nat → ClassId} {ad : Nat → Nat} {post : Int → ZS → Prop} (X : ZX Γ cX13_isTail RX13 3 41) (K : ZCap Γ l (ΘM D cr ds ad) 4 0 0) (hR : ZRetI Γ cX13_isTail .boolean 0 0 (fun r σ => (r = 0 ∨ r = 1) ∧ post r σ)) (v1 : Int) (σ : ZS) (h : wm_isTail_203 post v1 σ) : Z Γ 0 0 σ [] 203 [(0, .ref (ad 0)), (1, .int (iz v1))] [] := by
  refine z_iload_n X 1 dX13_isTail_203 rfl ?_
  refine z_iconst X 1 dX13_isTail_204 ?_
  refine z_iadd X dX13_isTail_205 ?_
  refine z_aload_n X 0 dX13_isTail_206 rfl ?_
  refine gM_11 X K dX13_isTail_207 ?_
  obtain ⟨i1, h⟩ := h
  obtain ⟨i2, h⟩ := h
  refine z_icmp_ne X 228 dX13_isTail_210 rfl i1 i2 (fun c3 => ?_) (fun c3 => ?_)
  · have h := h.1 c3
    refine z_iconst X 0 dX13_isTail_228 ?_
    exact hR _ _ _ _ _ _ _ dX13_isTail_229 (z_nb (Or.inl rfl)) (Nat.le_refl 0) (Nat.le_refl 0) ⟨(Or.inl rfl), h⟩
  · have h := h.2 c3
    refine z_aload_n X 0 dX13_isTail_213 rfl ?_
    refine gM_9 X K dX13_isTail_214 ?_
    refine z_iload_n X 1 dX13_isTail_217 rfl ?_
    obtain ⟨x4, h⟩ := h
    refine aM_9 X K dX13_isTail_218 x4 ?_
    refine z_bipush X 127 dX13_isTail_219 rfl ?_
    obtain ⟨i5, h⟩ := h
    refine z_icmp_le X 228 dX13_isTail_221 rfl i5 (by decide) (fun c6 => ?_) (fun c6 => ?_)
    · have h := h.1 c6
      refine z_iconst X 0 dX13_isTail_228 ?_
      exact hR _ _ _ _ _ _ _ dX13_isTail_229 (z_nb (Or.inl rfl)) (Nat.le_refl 0) (Nat.le_refl 0) ⟨(Or.inl rfl), h⟩
    · have h := h.2 c6
      refine z_iconst X 1 dX13_isTail_224 ?_
      refine z_goto (tgt := 229) X dX13_isTail_225 rfl ?_
      exact hR _ _ _ _ _ _ _ dX13_isTail_229 (z_nb (Or.inr rfl)) (Nat.le_refl 0) (Nat.le_refl 0) ⟨(Or.inr rfl), h⟩
set_option maxRecDepth 100000 in
theorem wkm_isTail_183 {Γ : ZG} {l : Launch} {D : va_G} {cr : List vw_C} {ds : Nat → ClassId} {ad : Nat → Nat} {post : Int → ZS → Prop} (X : ZX Γ cX13_isTail RX13 3 41) (K : ZCap Γ l (ΘM D cr ds ad) 4 0 0) (hR : ZRetI Γ cX13_isTail .boolean 0 0 (fun r σ => (r = 0 ∨ r = 1) ∧ post r σ)) (v1 : Int) (σ : ZS) (h : wm_isTail_183 post v1 σ) : Z Γ 0 0 σ [] 183 [(0, .ref (ad 0)), (1, .int (iz v1))] [] := by
  refine z_iload_n X 1 dX13_isTail_183 rfl ?_
  refine z_iconst X 3 dX13_isTail_184 ?_
  refine z_iadd X dX13_isTail_185 ?_
  refine z_aload_n X 0 dX13_isTail_186 rfl ?_
  refine gM_11 X K dX13_isTail_187 ?_
  obtain ⟨i1, h⟩ := h
  obtain ⟨i2, h⟩ := h
  refine z_icmp_ne X 203 dX13_isTail_190 rfl i1 i2 (fun c3 => ?_) (fun c3 => ?_)
  · have h := h.1 c3
    exact z_sub [0, 1] rfl (wkm_isTail_203 X K hR _ _ h)
  · have h := h.2 c3
    refine z_aload_n X 0 dX13_isTail_193 rfl ?_
    refine z_iload_n X 1 dX13_isTail_194 rfl ?_
    refine z_iconst X 1 dX13_isTail_195 ?_
    refine z_iadd X dX13_isTail_196 ?_
    refine clm_isDigits X K rfl h (Nat.le_of_ble_eq_true rfl) dX13_isTail_197 (fun r5 σ4 h => ?_)
    obtain ⟨b5, h⟩ := h
    have h := h b5
    refine z_if_ne X 224 dX13_isTail_200 rfl (InR_b b5) (fun c7 => ?_) (fun c7 => ?_)
    · have h := h.1 c7
      refine z_iconst X 1 dX13_isTail_224 ?_
      refine z_goto (tgt := 229) X dX13_isTail_225 rfl ?_
      exact hR _ _ _ _ _ _ _ dX13_isTail_229 (z_nb (Or.inr rfl)) (Nat.le_refl 0) (Nat.le_refl 0) ⟨(Or.inr rfl), h⟩
    · have h := h.2 c7
      exact z_sub [0, 1] rfl (wkm_isTail_203 X K hR _ _ h)
set_option maxRecDepth 100000 in
theorem wkm_isTail_147 {Γ : ZG} {l : Launch} {D : va_G} {cr : List vw_C} {ds : Nat → ClassId} {ad : Nat → Nat} {post : Int → ZS → Prop} (X : ZX Γ cX13_isTail RX13 3 41) (K : ZCap Γ l (ΘM D cr ds ad) 4 0 0) (hR : ZRetI Γ cX13_isTail .boolean 0 0 (fun r σ => (r = 0 ∨ r = 1) ∧ post r σ)) (v1 : Int) (σ : ZS) (h : wm_isTail_147 post v1 σ) : Z Γ 0 0 σ [] 147 [(0, .ref (ad 0)), (1, .int (iz v1))] [] := by
  refine z_aload_n X 0 dX13_isTail_147 rfl ?_
  refine gM_9 X K dX13_isTail_148 ?_
  refine z_iload_n X 1 dX13_isTail_151 rfl ?_
  obtain ⟨x1, h⟩ := h
  refine aM_9 X K dX13_isTail_152 x1 ?_
  refine z_sipush X 128 dX13_isTail_153 rfl ?_
  obtain ⟨i2, h⟩ := h
  refine z_icmp_ge X 203 dX13_isTail_156 rfl i2 (by decide) (fun c3 => ?_) (fun c3 => ?_)
  · have h := h.1 c3
    exact z_sub [0, 1] rfl (wkm_isTail_203 X K hR _ _ h)
  · have h := h.2 c3
    refine z_iload_n X 1 dX13_isTail_159 rfl ?_
    refine z_iconst X 2 dX13_isTail_160 ?_
    refine z_iadd X dX13_isTail_161 ?_
    refine z_aload_n X 0 dX13_isTail_162 rfl ?_
    refine gM_11 X K dX13_isTail_163 ?_
    obtain ⟨i4, h⟩ := h
    obtain ⟨i5, h⟩ := h
    refine z_icmp_ne X 183 dX13_isTail_166 rfl i4 i5 (fun c6 => ?_) (fun c6 => ?_)
    · have h := h.1 c6
      exact z_sub [0, 1] rfl (wkm_isTail_183 X K hR _ _ h)
    · have h := h.2 c6
      refine z_aload_n X 0 dX13_isTail_169 rfl ?_
      refine gM_9 X K dX13_isTail_170 ?_
      refine z_iload_n X 1 dX13_isTail_173 rfl ?_
      refine z_iconst X 1 dX13_isTail_174 ?_
      refine z_iadd X dX13_isTail_175 ?_
      obtain ⟨x7, h⟩ := h
      refine aM_9 X K dX13_isTail_176 x7 ?_
      refine z_sipush X 128 dX13_isTail_177 rfl ?_
      obtain ⟨i8, h⟩ := h
      refine z_icmp_lt X 224 dX13_isTail_180 rfl i8 (by decide) (fun c9 => ?_) (fun c9 => ?_)
      · have h := h.1 c9
        refine z_iconst X 1 dX13_isTail_224 ?_
        refine z_goto (tgt := 229) X dX13_isTail_225 rfl ?_
        exact hR _ _ _ _ _ _ _ dX13_isTail_229 (z_nb (Or.inr rfl)) (Nat.le_refl 0) (Nat.le_refl 0) ⟨(Or.inr rfl), h⟩
      · have h := h.2 c9
        exact z_sub [0, 1] rfl (wkm_isTail_183 X K hR _ _ h)
set_option maxRecDepth 100000 in
theorem wkm_isTail_123 {Γ : ZG} {l : Launch} {D : va_G} {cr : List vw_C} {ds : Nat → ClassId} {ad : Nat → Nat} {post : Int → ZS → Prop} (X : ZX Γ cX13_isTail RX13 3 41) (K : ZCap Γ l (ΘM D cr ds ad) 4 0 0) (hR : ZRetI Γ cX13_isTail .boolean 0 0 (fun r σ => (r = 0 ∨ r = 1) ∧ post r σ)) (v1 : Int) (σ : ZS) (h : wm_isTail_123 post v1 σ) : Z Γ 0 0 σ [] 123 [(0, .ref (ad 0)), (1, .int (iz v1))] [] := by
  refine z_iload_n X 1 dX13_isTail_123 rfl ?_
  refine z_iconst X 3 dX13_isTail_124 ?_
  refine z_iadd X dX13_isTail_125 ?_
  refine z_aload_n X 0 dX13_isTail_126 rfl ?_
  refine gM_11 X K dX13_isTail_127 ?_
  obtain ⟨i1, h⟩ := h
  obtain ⟨i2, h⟩ := h
  refine z_icmp_ne X 147 dX13_isTail_130 rfl i1 i2 (fun c3 => ?_) (fun c3 => ?_)
  · have h := h.1 c3
    exact z_sub [0, 1] rfl (wkm_isTail_147 X K hR _ _ h)
  · have h := h.2 c3
    refine z_aload_n X 0 dX13_isTail_133 rfl ?_
    refine gM_9 X K dX13_isTail_134 ?_
    refine z_iload_n X 1 dX13_isTail_137 rfl ?_
    refine z_iconst X 2 dX13_isTail_138 ?_
    refine z_iadd X dX13_isTail_139 ?_
    obtain ⟨x4, h⟩ := h
    refine aM_9 X K dX13_isTail_140 x4 ?_
    refine z_sipush X 128 dX13_isTail_141 rfl ?_
    obtain ⟨i5, h⟩ := h
    refine z_icmp_lt X 224 dX13_isTail_144 rfl i5 (by decide) (fun c6 => ?_) (fun c6 => ?_)
    · have h := h.1 c6
      refine z_iconst X 1 dX13_isTail_224 ?_
      refine z_goto (tgt := 229) X dX13_isTail_225 rfl ?_
      exact hR _ _ _ _ _ _ _ dX13_isTail_229 (z_nb (Or.inr rfl)) (Nat.le_refl 0) (Nat.le_refl 0) ⟨(Or.inr rfl), h⟩
    · have h := h.2 c6
      exact z_sub [0, 1] rfl (wkm_isTail_147 X K hR _ _ h)
set_option maxRecDepth 100000 in
theorem wkm_isTail_71 {Γ : ZG} {l : Launch} {D : va_G} {cr : List vw_C} {ds : Nat → ClassId} {ad : Nat → Nat} {post : Int → ZS → Prop} (X : ZX Γ cX13_isTail RX13 3 41) (K : ZCap Γ l (ΘM D cr ds ad) 4 0 0) (hR : ZRetI Γ cX13_isTail .boolean 0 0 (fun r σ => (r = 0 ∨ r = 1) ∧ post r σ)) (v1 : Int) (σ : ZS) (h : wm_isTail_71 post v1 σ) : Z Γ 0 0 σ [] 71 [(0, .ref (ad 0)), (1, .int (iz v1))] [] := by
  refine z_iload_n X 1 dX13_isTail_71 rfl ?_
  refine z_iconst X 1 dX13_isTail_72 ?_
  refine z_iadd X dX13_isTail_73 ?_
  refine z_aload_n X 0 dX13_isTail_74 rfl ?_
  refine gM_11 X K dX13_isTail_75 ?_
  obtain ⟨i1, h⟩ := h
  obtain ⟨i2, h⟩ := h
  refine z_icmp_ne X 97 dX13_isTail_78 rfl i1 i2 (fun c3 => ?_) (fun c3 => ?_)
  · have h := h.1 c3
    refine z_iconst X 0 dX13_isTail_97 ?_
    exact hR _ _ _ _ _ _ _ dX13_isTail_98 (z_nb (Or.inl rfl)) (Nat.le_refl 0) (Nat.le_refl 0) ⟨(Or.inl rfl), h⟩
  · have h := h.2 c3
    refine z_aload_n X 0 dX13_isTail_81 rfl ?_
    refine gM_9 X K dX13_isTail_82 ?_
    refine z_iload_n X 1 dX13_isTail_85 rfl ?_
    obtain ⟨x4, h⟩ := h
    refine aM_9 X K dX13_isTail_86 x4 ?_
    refine z_sipush X 128 dX13_isTail_87 rfl ?_
    obtain ⟨i5, h⟩ := h
    refine z_icmp_ge X 97 dX13_isTail_90 rfl i5 (by decide) (fun c6 => ?_) (fun c6 => ?_)
    · have h := h.1 c6
      refine z_iconst X 0 dX13_isTail_97 ?_
      exact hR _ _ _ _ _ _ _ dX13_isTail_98 (z_nb (Or.inl rfl)) (Nat.le_refl 0) (Nat.le_refl 0) ⟨(Or.inl rfl), h⟩
    · have h := h.2 c6
      refine z_iconst X 1 dX13_isTail_93 ?_
      refine z_goto (tgt := 98) X dX13_isTail_94 rfl ?_
      exact hR _ _ _ _ _ _ _ dX13_isTail_98 (z_nb (Or.inr rfl)) (Nat.le_refl 0) (Nat.le_refl 0) ⟨(Or.inr rfl), h⟩
set_option maxRecDepth 100000 in
theorem mt_isTail (l : Launch) (D : va_G) (cr : List vw_C) (ds : Nat → ClassId) (ad : Nat → Nat) (a0 : Int) (a1 : Int) (σ : ZS) (post : Int → ZS → Prop) (h : wm_isTail a0 a1 σ post) : ZMetI l (ΘM D cr ds ad) yX13_isTail cX13_isTail 4 .boolean 3 41 0 0 [.ref (ad 0), .int (iz a0), .int (iz a1)] σ (fun r σ => (r = 0 ∨ r = 1) ∧ post r σ) := by
  refine ZMetI.of (by decide) (Nat.le_of_ble_eq_true rfl) (fun Γ X K hR => ?_)
  have X : ZX Γ cX13_isTail RX13 3 41 := X
  refine z_sub [0, 1, 2] (lv' := [(0, .ref (ad 0)), (1, .int (iz a0)), (2, .int (iz a1))]) rfl ?_
  refine z_iload_n X 2 dX13_isTail_0 rfl ?_
  obtain ⟨i1, h⟩ := h
  refine z_if_eq X 12 dX13_isTail_1 rfl i1 (fun c2 => ?_) (fun c2 => ?_)
  · have h := h.1 c2
    exact z_sub [0, 1, 2] rfl (wkm_isTail_12 X K hR _ _ _ h)
  · have h := h.2 c2
    refine z_iload_n X 1 dX13_isTail_4 rfl ?_
    refine z_aload_n X 0 dX13_isTail_5 rfl ?_
    refine gM_11 X K dX13_isTail_6 ?_
    obtain ⟨i3, h⟩ := h
    obtain ⟨i4, h⟩ := h
    refine z_icmp_lt X 30 dX13_isTail_9 rfl i3 i4 (fun c5 => ?_) (fun c5 => ?_)
    · have h := h.1 c5
      refine z_iload_n X 2 dX13_isTail_30 rfl ?_
      refine z_if_lt X 44 dX13_isTail_31 rfl i1 (fun c6 => ?_) (fun c6 => ?_)
      · have h := h.1 c6
        refine z_iconst X 0 dX13_isTail_44 ?_
        exact hR _ _ _ _ _ _ _ dX13_isTail_45 (z_nb (Or.inl rfl)) (Nat.le_refl 0) (Nat.le_refl 0) ⟨(Or.inl rfl), h⟩
      · have h := h.2 c6
        refine z_aload_n X 0 dX13_isTail_34 rfl ?_
        refine gM_11 X K dX13_isTail_35 ?_
        refine z_iload_n X 1 dX13_isTail_38 rfl ?_
        refine z_isub X dX13_isTail_39 ?_
        refine z_iconst X 4 dX13_isTail_40 ?_
        obtain ⟨i7, h⟩ := h
        refine z_icmp_le X 46 dX13_isTail_41 rfl i7 (by decide) (fun c8 => ?_) (fun c8 => ?_)
        · have h := h.1 c8
          refine z_aload_n X 0 dX13_isTail_46 rfl ?_
          refine z_iload_n X 1 dX13_isTail_47 rfl ?_
          refine clm_isDigits X K rfl h (Nat.le_of_ble_eq_true rfl) dX13_isTail_48 (fun r10 σ9 h => ?_)
          obtain ⟨b10, h⟩ := h
          have h := h b10
          refine z_istore_nK X K (lv' := [(3, .int (iz r10)), (0, .ref (ad 0)), (1, .int (iz a0)), (2, .int (iz a1))]) dX13_isTail_51 rfl rfl ?_
          refine z_iload_n X 3 dX13_isTail_52 rfl ?_
          refine z_iconst X 1 dX13_isTail_53 ?_
          refine z_icmp_ne X 99 dX13_isTail_54 rfl i1 (by decide) (fun c12 => ?_) (fun c12 => ?_)
          · have h := h.1 c12
            refine z_iload_n X 0 dX13_isTail_99 rfl ?_
            refine z_if_eq X 147 dX13_isTail_100 rfl (InR_b b10) (fun c13 => ?_) (fun c13 => ?_)
            · have h := h.1 c13
              exact z_sub [1, 2] rfl (wkm_isTail_147 X K hR _ _ h)
            · have h := h.2 c13
              refine z_iload_n X 2 dX13_isTail_103 rfl ?_
              refine z_iconst X 4 dX13_isTail_104 ?_
              refine z_iadd X dX13_isTail_105 ?_
              refine z_aload_n X 1 dX13_isTail_106 rfl ?_
              refine gM_11 X K dX13_isTail_107 ?_
              obtain ⟨i14, h⟩ := h
              obtain ⟨i15, h⟩ := h
              refine z_icmp_ne X 123 dX13_isTail_110 rfl i14 i15 (fun c16 => ?_) (fun c16 => ?_)
              · have h := h.1 c16
                exact z_sub [1, 2] rfl (wkm_isTail_123 X K hR _ _ h)
              · have h := h.2 c16
                refine z_aload_n X 1 dX13_isTail_113 rfl ?_
                refine z_iload_n X 2 dX13_isTail_114 rfl ?_
                refine z_iconst X 2 dX13_isTail_115 ?_
                refine z_iadd X dX13_isTail_116 ?_
                refine clm_isDigits X K rfl h (Nat.le_of_ble_eq_true rfl) dX13_isTail_117 (fun r18 σ17 h => ?_)
                obtain ⟨b18, h⟩ := h
                have h := h b18
                refine z_if_ne X 224 dX13_isTail_120 rfl (InR_b b18) (fun c20 => ?_) (fun c20 => ?_)
                · have h := h.1 c20
                  refine z_iconst X 1 dX13_isTail_224 ?_
                  refine z_goto (tgt := 229) X dX13_isTail_225 rfl ?_
                  exact hR _ _ _ _ _ _ _ dX13_isTail_229 (z_nb (Or.inr rfl)) (Nat.le_refl 0) (Nat.le_refl 0) ⟨(Or.inr rfl), h⟩
                · have h := h.2 c20
                  exact z_sub [1, 2] rfl (wkm_isTail_123 X K hR _ _ h)
          · have h := h.2 c12
            refine z_iload_n X 0 dX13_isTail_57 rfl ?_
            refine z_if_eq X 71 dX13_isTail_58 rfl (InR_b b10) (fun c21 => ?_) (fun c21 => ?_)
            · have h := h.1 c21
              exact z_sub [1, 2] rfl (wkm_isTail_71 X K hR _ _ h)
            · have h := h.2 c21
              refine z_iload_n X 2 dX13_isTail_61 rfl ?_
              refine z_iconst X 2 dX13_isTail_62 ?_
              refine z_iadd X dX13_isTail_63 ?_
              refine z_aload_n X 1 dX13_isTail_64 rfl ?_
              refine gM_11 X K dX13_isTail_65 ?_
              obtain ⟨i22, h⟩ := h
              obtain ⟨i23, h⟩ := h
              refine z_icmp_eq X 93 dX13_isTail_68 rfl i22 i23 (fun c24 => ?_) (fun c24 => ?_)
              · have h := h.1 c24
                refine z_iconst X 1 dX13_isTail_93 ?_
                refine z_goto (tgt := 98) X dX13_isTail_94 rfl ?_
                exact hR _ _ _ _ _ _ _ dX13_isTail_98 (z_nb (Or.inr rfl)) (Nat.le_refl 0) (Nat.le_refl 0) ⟨(Or.inr rfl), h⟩
              · have h := h.2 c24
                exact z_sub [1, 2] rfl (wkm_isTail_71 X K hR _ _ h)
        · have h := h.2 c8
          refine z_iconst X 0 dX13_isTail_44 ?_
          exact hR _ _ _ _ _ _ _ dX13_isTail_45 (z_nb (Or.inl rfl)) (Nat.le_refl 0) (Nat.le_refl 0) ⟨(Or.inl rfl), h⟩
    · have h := h.2 c5
      exact z_sub [0, 1, 2] rfl (wkm_isTail_12 X K hR _ _ _ h)
set_option maxRecDepth 100000 in
theorem clm_isTail {Γ : ZG} {cc : ByteArray} {fr lo nL pc : Nat} {lv : List (Nat × Value)} {st : List Value} {l : Launch} {D : va_G} {cr : List vw_C} {ds : Nat → ClassId} {ad : Nat → Nat} {a0 : Int} {a1 : Int} {σ : ZS} {post : Int → ZS → Prop} (X : ZX Γ cc RX13 fr lo) (K : ZCap Γ l (ΘM D cr ds ad) nL 0 0) (hrm : zroom 4 64 fr lo = true) (h : wm_isTail a0 a1 σ post) (hst : (st.map fun v => v.category).sum ≤ 8) (d : decode cc pc = .ok (.invokevirtual 323, 3)) (kk : ∀ (r : Int) (σ' : ZS), (fun r σ => (r = 0 ∨ r = 1) ∧ post r σ) r σ' → Z Γ 0 0 σ' [] (pc + 3) lv (.int (iz r) :: st)) : Z Γ 0 0 σ [] pc lv (.int (iz a1) :: .int (iz a0) :: .ref (ad 0) :: st) :=
  z_callVI' (C := RX13) (q0 := 0) X K (mt_isTail l D cr ds ad a0 a1 σ post h) (Nat.le_of_ble_eq_true rfl) rfl rfl rfl (lw_V q1635 q1637 qs86 q127 q1638) ⟨rfl, by decide, by decide, rfl⟩ (zroom_of hrm) ⟨Nat.zero_le _, Nat.zero_le _⟩ hst d rfl kk
/- X13_fits -/
set_option maxRecDepth 100000 in
theorem mt_fits (l : Launch) (D : va_G) (cr : List vw_C) (ds : Nat → ClassId) (ad : Nat → Nat) (a0 : Int) (a1 : Int) (σ : ZS) (post : Int → ZS → Prop) (h : wm_fits a0 a1 σ post) : ZMetI l (ΘM D cr ds ad) yX13_fits cX13_fits 3 .boolean 4 64 0 0 [.ref (ad 0), .int (iz a0), .int (iz a1)] σ (fun r σ => (r = 0 ∨ r = 1) ∧ post r σ) := by
  refine ZMetI.of (by decide) (Nat.le_of_ble_eq_true rfl) (fun Γ X K hR => ?_)
  have X : ZX Γ cX13_fits RX13 4 64 := X
  refine z_sub [0, 1, 2] (lv' := [(0, .ref (ad 0)), (1, .int (iz a0)), (2, .int (iz a1))]) rfl ?_
  refine z_aload_n X 0 dX13_fits_0 rfl ?_
  refine gM_58 X K dX13_fits_1 ?_
  obtain ⟨i1, h⟩ := h
  refine z_if_eq X 16 dX13_fits_4 rfl i1 (fun c2 => ?_) (fun c2 => ?_)
  · have h := h.1 c2
    refine z_aload_n X 0 dX13_fits_16 rfl ?_
    refine z_aload_n X 0 dX13_fits_17 rfl ?_
    refine gM_49 X K dX13_fits_18 ?_
    refine z_iload_n X 1 dX13_fits_21 rfl ?_
    refine z_iload_n X 2 dX13_fits_22 rfl ?_
    refine clm_has X K rfl h (Nat.le_of_ble_eq_true rfl) dX13_fits_23 (fun r4 σ3 h => ?_)
    obtain ⟨b4, h⟩ := h
    have h := h b4
    exact hR _ _ _ _ _ _ _ dX13_fits_26 (z_nb b4) (Nat.le_refl 0) (Nat.le_refl 0) ⟨b4, h⟩
  · have h := h.2 c2
    refine z_aload_n X 0 dX13_fits_7 rfl ?_
    refine z_iload_n X 1 dX13_fits_8 rfl ?_
    refine z_iload_n X 2 dX13_fits_9 rfl ?_
    refine clm_isTail X K rfl h (Nat.le_of_ble_eq_true rfl) dX13_fits_10 (fun r7 σ6 h => ?_)
    obtain ⟨b7, h⟩ := h
    have h := h b7
    refine z_goto (tgt := 26) X dX13_fits_13 rfl ?_
    exact hR _ _ _ _ _ _ _ dX13_fits_26 (z_nb b7) (Nat.le_refl 0) (Nat.le_refl 0) ⟨b7, h⟩
set_option maxRecDepth 100000 in
theorem clm_fits {Γ : ZG} {cc : ByteArray} {fr lo nL pc : Nat} {lv : List (Nat × Value)} {st : List Value} {l : Launch} {D : va_G} {cr : List vw_C} {ds : Nat → ClassId} {ad : Nat → Nat} {a0 : Int} {a1 : Int} {σ : ZS} {post : Int → ZS → Prop} (X : ZX Γ cc RX13 fr lo) (K : ZCap Γ l (ΘM D cr ds ad) nL 0 0) (hrm : zroom 5 86 fr lo = true) (h : wm_fits a0 a1 σ post) (hst : (st.map fun v => v.category).sum ≤ 8) (d : decode cc pc = .ok (.invokevirtual 381, 3)) (kk : ∀ (r : Int) (σ' : ZS), (fun r σ => (r = 0 ∨ r = 1) ∧ post r σ) r σ' → Z Γ 0 0 σ' [] (pc + 3) lv (.int (iz r) :: st)) : Z Γ 0 0 σ [] pc lv (.int (iz a1) :: .int (iz a0) :: .ref (ad 0) :: st) :=
  z_callVI' (C := RX13) (q0 := 0) X K (mt_fits l D cr ds ad a0 a1 σ post h) (Nat.le_of_ble_eq_true rfl) rfl rfl rfl (lw_V q1669 q1671 qs93 q127 q1672) ⟨rfl, by decide, by decide, rfl⟩ (zroom_of hrm) ⟨Nat.zero_le _, Nat.zero_le _⟩ hst d rfl kk
/- X13_put -/
set_option maxRecDepth 100000 in
theorem mt_put (l : Launch) (D : va_G) (cr : List vw_C) (ds : Nat → ClassId) (ad : Nat → Nat) (a0 : Int) (σ : ZS) (post : ZS → Prop) (h : wm_put a0 σ post) : ZMetV l (ΘM D cr ds ad) yX13_put cX13_put 2 1 0 0 0 [.ref (ad 0), .int (iz a0)] σ post := by
  refine ZMetV.of (by decide) (Nat.le_of_ble_eq_true rfl) (fun Γ X K hR => ?_)
  have X : ZX Γ cX13_put RX13 1 0 := X
  refine z_sub [0, 1] (lv' := [(0, .ref (ad 0)), (1, .int (iz a0))]) rfl ?_
  refine z_aload_n X 0 dX13_put_0 rfl ?_
  refine gM_20 X K dX13_put_1 ?_
  refine z_aload_n X 0 dX13_put_4 rfl ?_
  refine gM_59 X K dX13_put_5 ?_
  refine z_iload_n X 1 dX13_put_8 rfl ?_
  obtain ⟨x1, h⟩ := h
  refine sM_13 X K dX13_put_9 x1 (fun σ2 eσ2 => ?_)
  have h := h σ2 eσ2
  refine z_aload_n X 0 dX13_put_10 rfl ?_
  refine z_dup X dX13_put_11 rfl ?_
  refine gM_59 X K dX13_put_12 ?_
  refine z_iconst X 1 dX13_put_15 ?_
  refine z_iadd X dX13_put_16 ?_
  refine pM_59 X K dX13_put_17 (fun σ3 eσ3 => ?_)
  have h := h σ3 eσ3
  exact hR _ _ _ _ _ _ dX13_put_20 (Nat.le_refl 0) (Nat.le_refl 0) h
set_option maxRecDepth 100000 in
theorem clm_put {Γ : ZG} {cc : ByteArray} {fr lo nL pc : Nat} {lv : List (Nat × Value)} {st : List Value} {l : Launch} {D : va_G} {cr : List vw_C} {ds : Nat → ClassId} {ad : Nat → Nat} {a0 : Int} {σ : ZS} {post : ZS → Prop} (X : ZX Γ cc RX13 fr lo) (K : ZCap Γ l (ΘM D cr ds ad) nL 0 0) (hrm : zroom 2 21 fr lo = true) (h : wm_put a0 σ post) (hst : (st.map fun v => v.category).sum ≤ 8) (d : decode cc pc = .ok (.invokevirtual 384, 3)) (kk : ∀ (σ' : ZS), post σ' → Z Γ 0 0 σ' [] (pc + 3) lv (st)) : Z Γ 0 0 σ [] pc lv (.int (iz a0) :: .ref (ad 0) :: st) :=
  z_callVV' (C := RX13) (q0 := 0) X K (mt_put l D cr ds ad a0 σ post h) (Nat.le_of_ble_eq_true rfl) rfl rfl rfl (lw_V q1673 q1675 qs94 q127 q1676) ⟨rfl, by decide, by decide, rfl⟩ (zroom_of hrm) ⟨Nat.zero_le _, Nat.zero_le _⟩ hst d rfl kk
/- X13_oneOfAscii -/
set_option maxRecDepth 100000 in
theorem wkm_oneOfAscii_94 {Γ : ZG} {l : Launch} {D : va_G} {cr : List vw_C} {ds : Nat → ClassId} {ad : Nat → Nat} {post : Int → ZS → Prop} (X : ZX Γ cX13_oneOfAscii RX13 5 86) (K : ZCap Γ l (ΘM D cr ds ad) 3 0 0) (hR : ZRetI Γ cX13_oneOfAscii .int 0 0 post) (v1 : Int) (v2 : Int) (σ : ZS) (h : wm_oneOfAscii_94 post v1 v2 σ) : Z Γ 0 0 σ [] 94 [(0, .ref (ad 0)), (1, .int (iz v1)), (2, .int (iz v2))] [] := by
  refine z_aload_n X 0 dX13_oneOfAscii_94 rfl ?_
  refine gM_9 X K dX13_oneOfAscii_95 ?_
  refine z_iload_n X 1 dX13_oneOfAscii_98 rfl ?_
  obtain ⟨x1, h⟩ := h
  refine aM_9 X K dX13_oneOfAscii_99 x1 ?_
  refine z_bipush X 127 dX13_oneOfAscii_100 rfl ?_
  obtain ⟨i2, h⟩ := h
  refine z_icmp_le X 140 dX13_oneOfAscii_102 rfl i2 (by decide) (fun c3 => ?_) (fun c3 => ?_)
  · have h := h.1 c3
    refine z_iconst X 0 dX13_oneOfAscii_140 ?_
    exact hR _ _ _ _ _ _ _ dX13_oneOfAscii_141 rfl (Nat.le_refl 0) (Nat.le_refl 0) h
  · have h := h.2 c3
    refine z_aload_n X 0 dX13_oneOfAscii_105 rfl ?_
    refine z_iload_n X 1 dX13_oneOfAscii_106 rfl ?_
    refine z_iconst X 1 dX13_oneOfAscii_107 ?_
    refine z_iadd X dX13_oneOfAscii_108 ?_
    refine z_iload_n X 2 dX13_oneOfAscii_109 rfl ?_
    refine z_iconst X 2 dX13_oneOfAscii_110 ?_
    refine z_isub X dX13_oneOfAscii_111 ?_
    refine clm_fits X K rfl h (Nat.le_of_ble_eq_true rfl) dX13_oneOfAscii_112 (fun r5 σ4 h => ?_)
    obtain ⟨b5, h⟩ := h
    have h := h b5
    refine z_if_eq X 140 dX13_oneOfAscii_115 rfl (InR_b b5) (fun c7 => ?_) (fun c7 => ?_)
    · have h := h.1 c7
      refine z_iconst X 0 dX13_oneOfAscii_140 ?_
      exact hR _ _ _ _ _ _ _ dX13_oneOfAscii_141 rfl (Nat.le_refl 0) (Nat.le_refl 0) h
    · have h := h.2 c7
      refine z_aload_n X 0 dX13_oneOfAscii_118 rfl ?_
      refine z_sipush X 235 dX13_oneOfAscii_119 rfl ?_
      refine clm_put X K rfl h (Nat.le_of_ble_eq_true rfl) dX13_oneOfAscii_122 (fun σ8 h => ?_)
      refine z_aload_n X 0 dX13_oneOfAscii_125 rfl ?_
      refine z_aload_n X 0 dX13_oneOfAscii_126 rfl ?_
      refine gM_9 X K dX13_oneOfAscii_127 ?_
      refine z_iload_n X 1 dX13_oneOfAscii_130 rfl ?_
      refine aM_9 X K dX13_oneOfAscii_131 x1 ?_
      refine z_bipush X 127 dX13_oneOfAscii_132 rfl ?_
      refine z_isub X dX13_oneOfAscii_134 ?_
      refine clm_put X K rfl h (Nat.le_of_ble_eq_true rfl) dX13_oneOfAscii_135 (fun σ9 h => ?_)
      refine z_iconst X 1 dX13_oneOfAscii_138 ?_
      exact hR _ _ _ _ _ _ _ dX13_oneOfAscii_139 rfl (Nat.le_refl 0) (Nat.le_refl 0) h
set_option maxRecDepth 100000 in
theorem wkm_oneOfAscii_55 {Γ : ZG} {l : Launch} {D : va_G} {cr : List vw_C} {ds : Nat → ClassId} {ad : Nat → Nat} {post : Int → ZS → Prop} (X : ZX Γ cX13_oneOfAscii RX13 5 86) (K : ZCap Γ l (ΘM D cr ds ad) 3 0 0) (hR : ZRetI Γ cX13_oneOfAscii .int 0 0 post) (v1 : Int) (v2 : Int) (σ : ZS) (h : wm_oneOfAscii_55 post v1 v2 σ) : Z Γ 0 0 σ [] 55 [(0, .ref (ad 0)), (1, .int (iz v1)), (2, .int (iz v2))] [] := by
  refine z_aload_n X 0 dX13_oneOfAscii_55 rfl ?_
  refine gM_9 X K dX13_oneOfAscii_56 ?_
  refine z_iload_n X 1 dX13_oneOfAscii_59 rfl ?_
  obtain ⟨x1, h⟩ := h
  refine aM_9 X K dX13_oneOfAscii_60 x1 ?_
  refine z_sipush X 128 dX13_oneOfAscii_61 rfl ?_
  obtain ⟨i2, h⟩ := h
  refine z_icmp_ge X 94 dX13_oneOfAscii_64 rfl i2 (by decide) (fun c3 => ?_) (fun c3 => ?_)
  · have h := h.1 c3
    exact z_sub [0, 1, 2] rfl (wkm_oneOfAscii_94 X K hR _ _ _ h)
  · have h := h.2 c3
    refine z_aload_n X 0 dX13_oneOfAscii_67 rfl ?_
    refine z_iload_n X 1 dX13_oneOfAscii_68 rfl ?_
    refine z_iconst X 1 dX13_oneOfAscii_69 ?_
    refine z_iadd X dX13_oneOfAscii_70 ?_
    refine z_iload_n X 2 dX13_oneOfAscii_71 rfl ?_
    refine z_iconst X 1 dX13_oneOfAscii_72 ?_
    refine z_isub X dX13_oneOfAscii_73 ?_
    refine clm_fits X K rfl h (Nat.le_of_ble_eq_true rfl) dX13_oneOfAscii_74 (fun r5 σ4 h => ?_)
    obtain ⟨b5, h⟩ := h
    have h := h b5
    refine z_if_eq X 94 dX13_oneOfAscii_77 rfl (InR_b b5) (fun c7 => ?_) (fun c7 => ?_)
    · have h := h.1 c7
      exact z_sub [0, 1, 2] rfl (wkm_oneOfAscii_94 X K hR _ _ _ h)
    · have h := h.2 c7
      refine z_aload_n X 0 dX13_oneOfAscii_80 rfl ?_
      refine z_aload_n X 0 dX13_oneOfAscii_81 rfl ?_
      refine gM_9 X K dX13_oneOfAscii_82 ?_
      refine z_iload_n X 1 dX13_oneOfAscii_85 rfl ?_
      refine aM_9 X K dX13_oneOfAscii_86 x1 ?_
      refine z_iconst X 1 dX13_oneOfAscii_87 ?_
      refine z_iadd X dX13_oneOfAscii_88 ?_
      refine clm_put X K rfl h (Nat.le_of_ble_eq_true rfl) dX13_oneOfAscii_89 (fun σ8 h => ?_)
      refine z_iconst X 1 dX13_oneOfAscii_92 ?_
      exact hR _ _ _ _ _ _ _ dX13_oneOfAscii_93 rfl (Nat.le_refl 0) (Nat.le_refl 0) h
set_option maxRecDepth 100000 in
theorem mt_oneOfAscii (l : Launch) (D : va_G) (cr : List vw_C) (ds : Nat → ClassId) (ad : Nat → Nat) (a0 : Int) (a1 : Int) (σ : ZS) (post : Int → ZS → Prop) (h : wm_oneOfAscii a0 a1 σ post) : ZMetI l (ΘM D cr ds ad) yX13_oneOfAscii cX13_oneOfAscii 3 .int 5 86 0 0 [.ref (ad 0), .int (iz a0), .int (iz a1)] σ post := by
  refine ZMetI.of (by decide) (Nat.le_of_ble_eq_true rfl) (fun Γ X K hR => ?_)
  have X : ZX Γ cX13_oneOfAscii RX13 5 86 := X
  refine z_sub [0, 1, 2] (lv' := [(0, .ref (ad 0)), (1, .int (iz a0)), (2, .int (iz a1))]) rfl ?_
  refine z_aload_n X 0 dX13_oneOfAscii_0 rfl ?_
  refine z_iload_n X 1 dX13_oneOfAscii_1 rfl ?_
  refine clm_isDigits X K rfl h (Nat.le_of_ble_eq_true rfl) dX13_oneOfAscii_2 (fun r2 σ1 h => ?_)
  obtain ⟨b2, h⟩ := h
  have h := h b2
  refine z_if_eq X 55 dX13_oneOfAscii_5 rfl (InR_b b2) (fun c4 => ?_) (fun c4 => ?_)
  · have h := h.1 c4
    exact z_sub [0, 1, 2] rfl (wkm_oneOfAscii_55 X K hR _ _ _ h)
  · have h := h.2 c4
    refine z_aload_n X 0 dX13_oneOfAscii_8 rfl ?_
    refine z_iload_n X 1 dX13_oneOfAscii_9 rfl ?_
    refine z_iconst X 2 dX13_oneOfAscii_10 ?_
    refine z_iadd X dX13_oneOfAscii_11 ?_
    refine z_iload_n X 2 dX13_oneOfAscii_12 rfl ?_
    refine z_iconst X 1 dX13_oneOfAscii_13 ?_
    refine z_isub X dX13_oneOfAscii_14 ?_
    refine clm_fits X K rfl h (Nat.le_of_ble_eq_true rfl) dX13_oneOfAscii_15 (fun r6 σ5 h => ?_)
    obtain ⟨b6, h⟩ := h
    have h := h b6
    refine z_if_eq X 55 dX13_oneOfAscii_18 rfl (InR_b b6) (fun c8 => ?_) (fun c8 => ?_)
    · have h := h.1 c8
      exact z_sub [0, 1, 2] rfl (wkm_oneOfAscii_55 X K hR _ _ _ h)
    · have h := h.2 c8
      refine z_aload_n X 0 dX13_oneOfAscii_21 rfl ?_
      refine z_sipush X 130 dX13_oneOfAscii_22 rfl ?_
      refine z_bipush X 10 dX13_oneOfAscii_25 rfl ?_
      refine z_aload_n X 0 dX13_oneOfAscii_27 rfl ?_
      refine gM_9 X K dX13_oneOfAscii_28 ?_
      refine z_iload_n X 1 dX13_oneOfAscii_31 rfl ?_
      obtain ⟨x9, h⟩ := h
      refine aM_9 X K dX13_oneOfAscii_32 x9 ?_
      refine z_bipush X 48 dX13_oneOfAscii_33 rfl ?_
      refine z_isub X dX13_oneOfAscii_35 ?_
      refine z_imul X dX13_oneOfAscii_36 ?_
      refine z_iadd X dX13_oneOfAscii_37 ?_
      refine z_aload_n X 0 dX13_oneOfAscii_38 rfl ?_
      refine gM_9 X K dX13_oneOfAscii_39 ?_
      refine z_iload_n X 1 dX13_oneOfAscii_42 rfl ?_
      refine z_iconst X 1 dX13_oneOfAscii_43 ?_
      refine z_iadd X dX13_oneOfAscii_44 ?_
      obtain ⟨x10, h⟩ := h
      refine aM_9 X K dX13_oneOfAscii_45 x10 ?_
      refine z_iadd X dX13_oneOfAscii_46 ?_
      refine z_bipush X 48 dX13_oneOfAscii_47 rfl ?_
      refine z_isub X dX13_oneOfAscii_49 ?_
      refine clm_put X K rfl h (Nat.le_of_ble_eq_true rfl) dX13_oneOfAscii_50 (fun σ11 h => ?_)
      refine z_iconst X 2 dX13_oneOfAscii_53 ?_
      exact hR _ _ _ _ _ _ _ dX13_oneOfAscii_54 rfl (Nat.le_refl 0) (Nat.le_refl 0) h
set_option maxRecDepth 100000 in
theorem clm_oneOfAscii {Γ : ZG} {cc : ByteArray} {fr lo nL pc : Nat} {lv : List (Nat × Value)} {st : List Value} {l : Launch} {D : va_G} {cr : List vw_C} {ds : Nat → ClassId} {ad : Nat → Nat} {a0 : Int} {a1 : Int} {σ : ZS} {post : Int → ZS → Prop} (X : ZX Γ cc RX13 fr lo) (K : ZCap Γ l (ΘM D cr ds ad) nL 0 0) (hrm : zroom 6 108 fr lo = true) (h : wm_oneOfAscii a0 a1 σ post) (hst : (st.map fun v => v.category).sum ≤ 8) (d : decode cc pc = .ok (.invokevirtual 372, 3)) (kk : ∀ (r : Int) (σ' : ZS), post r σ' → Z Γ 0 0 σ' [] (pc + 3) lv (.int (iz r) :: st)) : Z Γ 0 0 σ [] pc lv (.int (iz a1) :: .int (iz a0) :: .ref (ad 0) :: st) :=
  z_callVI' (C := RX13) (q0 := 0) X K (mt_oneOfAscii l D cr ds ad a0 a1 σ post h) (Nat.le_of_ble_eq_true rfl) rfl rfl rfl (lw_V q1665 q1667 qs92 q127 q1668) ⟨rfl, by decide, by decide, rfl⟩ (zroom_of hrm) ⟨Nat.zero_le _, Nat.zero_le _⟩ hst d rfl kk
/- X13_mix -/
set_option maxRecDepth 100000 in
theorem mt_mix (l : Launch) (D : va_G) (cr : List vw_C) (ds : Nat → ClassId) (ad : Nat → Nat) (a0 : Int) (σ : ZS) (post : ZS → Prop) (h : wm_mix a0 σ post) : ZMetV l (ΘM D cr ds ad) yX13_mix cX13_mix 2 2 21 0 0 [.ref (ad 0), .int (iz a0)] σ post := by
  refine ZMetV.of (by decide) (Nat.le_of_ble_eq_true rfl) (fun Γ X K hR => ?_)
  have X : ZX Γ cX13_mix RX13 2 21 := X
  refine z_sub [0, 1] (lv' := [(0, .ref (ad 0)), (1, .int (iz a0))]) rfl ?_
  refine z_aload_n X 0 dX13_mix_0 rfl ?_
  refine z_iload_n X 1 dX13_mix_1 rfl ?_
  refine z_sipush X 149 dX13_mix_2 rfl ?_
  refine z_aload_n X 0 dX13_mix_5 rfl ?_
  refine gM_59 X K dX13_mix_6 ?_
  refine z_iconst X 1 dX13_mix_9 ?_
  refine z_iadd X dX13_mix_10 ?_
  refine z_imul X dX13_mix_11 ?_
  refine z_sipush X 255 dX13_mix_12 rfl ?_
  obtain ⟨i1, h⟩ := h
  obtain ⟨g2, h⟩ := h
  refine z_irem X dX13_mix_15 ⟨i1, (by decide), g2, (by decide)⟩ ?_
  refine z_iadd X dX13_mix_16 ?_
  refine z_sipush X 255 dX13_mix_17 rfl ?_
  refine z_iandm X 8 (M := 256) rfl rfl rfl dX13_mix_20 ?_
  refine z_iconst X 1 dX13_mix_21 ?_
  refine z_iadd X dX13_mix_22 ?_
  refine z_sipush X 255 dX13_mix_23 rfl ?_
  refine z_iandm X 8 (M := 256) rfl rfl rfl dX13_mix_26 ?_
  refine clm_put X K rfl h (Nat.le_of_ble_eq_true rfl) dX13_mix_27 (fun σ3 h => ?_)
  exact hR _ _ _ _ _ _ dX13_mix_30 (Nat.le_refl 0) (Nat.le_refl 0) h
set_option maxRecDepth 100000 in
theorem clm_mix {Γ : ZG} {cc : ByteArray} {fr lo nL pc : Nat} {lv : List (Nat × Value)} {st : List Value} {l : Launch} {D : va_G} {cr : List vw_C} {ds : Nat → ClassId} {ad : Nat → Nat} {a0 : Int} {σ : ZS} {post : ZS → Prop} (X : ZX Γ cc RX13 fr lo) (K : ZCap Γ l (ΘM D cr ds ad) nL 0 0) (hrm : zroom 3 42 fr lo = true) (h : wm_mix a0 σ post) (hst : (st.map fun v => v.category).sum ≤ 8) (d : decode cc pc = .ok (.invokevirtual 406, 3)) (kk : ∀ (σ' : ZS), post σ' → Z Γ 0 0 σ' [] (pc + 3) lv (st)) : Z Γ 0 0 σ [] pc lv (.int (iz a0) :: .ref (ad 0) :: st) :=
  z_callVV' (C := RX13) (q0 := 0) X K (mt_mix l D cr ds ad a0 σ post h) (Nat.le_of_ble_eq_true rfl) rfl rfl rfl (lw_V q1685 q1687 qs97 q127 q1688) ⟨rfl, by decide, by decide, rfl⟩ (zroom_of hrm) ⟨Nat.zero_le _, Nat.zero_le _⟩ hst d rfl kk
/- X13_runBase -/
set_option maxRecDepth 100000 in
theorem wkm_runBase_214 {Γ : ZG} {l : Launch} {D : va_G} {cr : List vw_C} {ds : Nat → ClassId} {ad : Nat → Nat} {post : Int → ZS → Prop} (X : ZX Γ cX13_runBase RX13 3 42) (K : ZCap Γ l (ΘM D cr ds ad) 8 0 0) (hR : ZRetI Γ cX13_runBase .int 0 0 post) (v3 : Int) (t0 : Int) (σ : ZS) (h : wm_runBase_214 post v3 t0 σ) : Z Γ 0 0 σ [] 214 [(3, .int (iz v3))] [.int (iz t0), .ref (ad 0)] := by
  obtain ⟨b2, h⟩ := h
  refine pM_58 X K b2 dX13_runBase_214 (fun σ1 eσ1 => ?_)
  have h := h σ1 eσ1
  refine z_iload_n X 0 dX13_runBase_217 rfl ?_
  exact hR _ _ _ _ _ _ _ dX13_runBase_218 rfl (Nat.le_refl 0) (Nat.le_refl 0) h
set_option maxRecDepth 100000 in
theorem wkm_runBase_178 {Γ : ZG} {l : Launch} {D : va_G} {cr : List vw_C} {ds : Nat → ClassId} {ad : Nat → Nat} {post : Int → ZS → Prop} (X : ZX Γ cX13_runBase RX13 3 42) (K : ZCap Γ l (ΘM D cr ds ad) 8 0 0) (hR : ZRetI Γ cX13_runBase .int 0 0 post) : ∀ (N : Nat) (v1 : Int) (v3 : Int) (v5 : Int) (v7 : Int) (σ : ZS), zfix (wbm_runBase_178 post) N (v1, v3, v5, v7, σ) → Z Γ 0 0 σ [] 178 [(0, .ref (ad 0)), (1, .int (iz v1)), (3, .int (iz v3)), (5, .int (iz v5)), (7, .int (iz v7))] [] := by
  intro N
  induction N with
  | zero => intro v1 v3 v5 v7 σ h; exact False.elim h
  | succ N ih =>
    intro v1 v3 v5 v7 σ h
    have h : wbm_runBase_178 post (zfix (wbm_runBase_178 post) N) (v1, v3, v5, v7, σ) := h
    have hC178 := ih
    clear ih
    generalize zfix (wbm_runBase_178 post) N = C178 at h hC178
    dsimp only [wbm_runBase_178] at h
    refine z_iload X 4 dX13_runBase_178 rfl ?_
    refine z_iload_n X 2 dX13_runBase_180 rfl ?_
    obtain ⟨i1, h⟩ := h
    obtain ⟨i2, h⟩ := h
    refine z_icmp_ge X 203 dX13_runBase_181 rfl i1 i2 (fun c3 => ?_) (fun c3 => ?_)
    · have h := h.1 c3
      refine z_aload_n X 0 dX13_runBase_203 rfl ?_
      refine z_iload X 3 dX13_runBase_204 rfl ?_
      obtain ⟨i4, h⟩ := h
      refine z_if_ne X 213 dX13_runBase_206 rfl i4 (fun c5 => ?_) (fun c5 => ?_)
      · have h := h.1 c5
        refine z_iconst X 0 dX13_runBase_213 ?_
        exact z_sub [2] rfl (wkm_runBase_214 X K hR _ _ _ h)
      · have h := h.2 c5
        refine z_iconst X 1 dX13_runBase_209 ?_
        refine z_goto (tgt := 214) X dX13_runBase_210 rfl ?_
        exact z_sub [2] rfl (wkm_runBase_214 X K hR _ _ _ h)
    · have h := h.2 c3
      refine z_aload_n X 0 dX13_runBase_184 rfl ?_
      refine z_aload_n X 0 dX13_runBase_185 rfl ?_
      refine gM_9 X K dX13_runBase_186 ?_
      refine z_iload_n X 1 dX13_runBase_189 rfl ?_
      refine z_iload X 4 dX13_runBase_190 rfl ?_
      refine z_iadd X dX13_runBase_192 ?_
      obtain ⟨x6, h⟩ := h
      refine aM_9 X K dX13_runBase_193 x6 ?_
      refine clm_mix X K rfl h (Nat.le_of_ble_eq_true rfl) dX13_runBase_194 (fun σ7 h => ?_)
      refine z_iincK X K 4 (lv' := [(7, .int (iz (v7 + 1))), (0, .ref (ad 0)), (1, .int (iz v1)), (3, .int (iz v3)), (5, .int (iz v5))]) dX13_runBase_197 rfl rfl rfl ?_
      refine z_goto (tgt := 178) X dX13_runBase_200 rfl ?_
      exact z_sub [1, 2, 3, 4, 0] rfl (hC178 _ _ _ _ _ h)
set_option maxRecDepth 100000 in
theorem wkm_runBase_175 {Γ : ZG} {l : Launch} {D : va_G} {cr : List vw_C} {ds : Nat → ClassId} {ad : Nat → Nat} {post : Int → ZS → Prop} (X : ZX Γ cX13_runBase RX13 3 42) (K : ZCap Γ l (ΘM D cr ds ad) 8 0 0) (hR : ZRetI Γ cX13_runBase .int 0 0 post) (v1 : Int) (v3 : Int) (v5 : Int) (σ : ZS) (h : wm_runBase_175 post v1 v3 v5 σ) : Z Γ 0 0 σ [] 175 [(0, .ref (ad 0)), (1, .int (iz v1)), (3, .int (iz v3)), (5, .int (iz v5))] [] := by
  refine z_iconst X 0 dX13_runBase_175 ?_
  refine z_istoreK X K (lv' := [(7, .int (iz 0)), (0, .ref (ad 0)), (1, .int (iz v1)), (3, .int (iz v3)), (5, .int (iz v5))]) dX13_runBase_176 rfl rfl ?_
  obtain ⟨N, h⟩ := h
  exact z_sub [1, 2, 3, 4, 0] rfl (wkm_runBase_178 X K hR N _ _ _ _ _ h)
set_option maxRecDepth 100000 in
theorem wkm_runBase_151 {Γ : ZG} {l : Launch} {D : va_G} {cr : List vw_C} {ds : Nat → ClassId} {ad : Nat → Nat} {post : Int → ZS → Prop} (X : ZX Γ cX13_runBase RX13 3 42) (K : ZCap Γ l (ΘM D cr ds ad) 8 0 0) (hR : ZRetI Γ cX13_runBase .int 0 0 post) (v1 : Int) (v3 : Int) (v5 : Int) (t0 : Int) (σ : ZS) (h : wm_runBase_151 post v1 v3 v5 t0 σ) : Z Γ 0 0 σ [] 151 [(0, .ref (ad 0)), (1, .int (iz v1)), (3, .int (iz v3)), (5, .int (iz v5))] [.int (iz t0), .ref (ad 0)] := by
  refine clm_mix X K rfl h (Nat.le_of_ble_eq_true rfl) dX13_runBase_151 (fun σ1 h => ?_)
  refine z_iload X 3 dX13_runBase_154 rfl ?_
  obtain ⟨i2, h⟩ := h
  refine z_if_eq X 175 dX13_runBase_156 rfl i2 (fun c3 => ?_) (fun c3 => ?_)
  · have h := h.1 c3
    exact z_sub [0, 1, 2, 3] rfl (wkm_runBase_175 X K hR _ _ _ _ h)
  · have h := h.2 c3
    refine z_iload_n X 2 dX13_runBase_159 rfl ?_
    refine z_sipush X 249 dX13_runBase_160 rfl ?_
    obtain ⟨i4, h⟩ := h
    refine z_icmp_le X 175 dX13_runBase_163 rfl i4 (by decide) (fun c5 => ?_) (fun c5 => ?_)
    · have h := h.1 c5
      exact z_sub [0, 1, 2, 3] rfl (wkm_runBase_175 X K hR _ _ _ _ h)
    · have h := h.2 c5
      refine z_aload_n X 0 dX13_runBase_166 rfl ?_
      refine z_iload_n X 2 dX13_runBase_167 rfl ?_
      refine z_sipush X 250 dX13_runBase_168 rfl ?_
      obtain ⟨g6, h⟩ := h
      refine z_irem X dX13_runBase_171 ⟨i4, (by decide), g6, (by decide)⟩ ?_
      refine clm_mix X K rfl h (Nat.le_of_ble_eq_true rfl) dX13_runBase_172 (fun σ7 h => ?_)
      exact z_sub [0, 1, 2, 3] rfl (wkm_runBase_175 X K hR _ _ _ _ h)
set_option maxRecDepth 100000 in
theorem wkm_runBase_114 {Γ : ZG} {l : Launch} {D : va_G} {cr : List vw_C} {ds : Nat → ClassId} {ad : Nat → Nat} {post : Int → ZS → Prop} (X : ZX Γ cX13_runBase RX13 3 42) (K : ZCap Γ l (ΘM D cr ds ad) 8 0 0) (hR : ZRetI Γ cX13_runBase .int 0 0 post) (v1 : Int) (v3 : Int) (v5 : Int) (σ : ZS) (h : wm_runBase_114 post v1 v3 v5 σ) : Z Γ 0 0 σ [] 114 [(0, .ref (ad 0)), (1, .int (iz v1)), (3, .int (iz v3)), (5, .int (iz v5))] [] := by
  refine z_aload_n X 0 dX13_runBase_114 rfl ?_
  refine z_sipush X 231 dX13_runBase_115 rfl ?_
  refine clm_put X K rfl h (Nat.le_of_ble_eq_true rfl) dX13_runBase_118 (fun σ1 h => ?_)
  refine z_aload_n X 0 dX13_runBase_121 rfl ?_
  refine z_iload X 3 dX13_runBase_122 rfl ?_
  obtain ⟨i2, h⟩ := h
  refine z_if_eq X 150 dX13_runBase_124 rfl i2 (fun c3 => ?_) (fun c3 => ?_)
  · have h := h.1 c3
    refine z_iconst X 0 dX13_runBase_150 ?_
    exact z_sub [0, 1, 2, 3] rfl (wkm_runBase_151 X K hR _ _ _ _ _ h)
  · have h := h.2 c3
    refine z_iload_n X 2 dX13_runBase_127 rfl ?_
    refine z_sipush X 250 dX13_runBase_128 rfl ?_
    obtain ⟨i4, h⟩ := h
    refine z_icmp_ge X 138 dX13_runBase_131 rfl i4 (by decide) (fun c5 => ?_) (fun c5 => ?_)
    · have h := h.1 c5
      refine z_sipush X 249 dX13_runBase_138 rfl ?_
      refine z_iload_n X 2 dX13_runBase_141 rfl ?_
      refine z_sipush X 250 dX13_runBase_142 rfl ?_
      obtain ⟨g6, h⟩ := h
      refine z_idiv X dX13_runBase_145 ⟨i4, (by decide), g6, (by decide)⟩ ?_
      refine z_iadd X dX13_runBase_146 ?_
      refine z_goto (tgt := 151) X dX13_runBase_147 rfl ?_
      exact z_sub [0, 1, 2, 3] rfl (wkm_runBase_151 X K hR _ _ _ _ _ h)
    · have h := h.2 c5
      refine z_iload_n X 2 dX13_runBase_134 rfl ?_
      refine z_goto (tgt := 151) X dX13_runBase_135 rfl ?_
      exact z_sub [0, 1, 2, 3] rfl (wkm_runBase_151 X K hR _ _ _ _ _ h)
set_option maxRecDepth 100000 in
theorem wkm_runBase_102 {Γ : ZG} {l : Launch} {D : va_G} {cr : List vw_C} {ds : Nat → ClassId} {ad : Nat → Nat} {post : Int → ZS → Prop} (X : ZX Γ cX13_runBase RX13 3 42) (K : ZCap Γ l (ΘM D cr ds ad) 8 0 0) (hR : ZRetI Γ cX13_runBase .int 0 0 post) {C2 : Int × Int × Int × ZS → Prop} (hC2 : ∀ (v1 : Int) (v2 : Int) (v3 : Int) (σ : ZS), C2 (v1, v2, v3, σ) → Z Γ 0 0 σ [] 2 [(0, .ref (ad 0)), (1, .int (iz v1)), (2, .int (iz v2)), (3, .int (iz v3))] []) (v1 : Int) (v2 : Int) (v3 : Int) (v5 : Int) (t0 : Int) (σ : ZS) (h : wm_runBase_102 C2 post v1 v2 v3 v5 t0 σ) : Z Γ 0 0 σ [] 102 [(0, .ref (ad 0)), (1, .int (iz v1)), (2, .int (iz v2)), (3, .int (iz v3)), (5, .int (iz v5))] [.int (iz t0)] := by
  refine z_istoreK X K (lv' := [(6, .int (iz t0)), (0, .ref (ad 0)), (1, .int (iz v1)), (2, .int (iz v2)), (3, .int (iz v3)), (5, .int (iz v5))]) dX13_runBase_102 rfl rfl ?_
  refine z_iload X 5 dX13_runBase_104 rfl ?_
  obtain ⟨i1, h⟩ := h
  refine z_if_ne X 114 dX13_runBase_106 rfl i1 (fun c2 => ?_) (fun c2 => ?_)
  · have h := h.1 c2
    exact z_sub [1, 2, 4, 5] rfl (wkm_runBase_114 X K hR _ _ _ _ h)
  · have h := h.2 c2
    refine z_iload X 0 dX13_runBase_109 rfl ?_
    obtain ⟨i3, h⟩ := h
    refine z_if_eq X 219 dX13_runBase_111 rfl i3 (fun c4 => ?_) (fun c4 => ?_)
    · have h := h.1 c4
      refine z_iincK X K 4 (lv' := [(3, .int (iz (v3 + 1))), (6, .int (iz t0)), (0, .ref (ad 0)), (1, .int (iz v1)), (2, .int (iz v2)), (5, .int (iz v5))]) dX13_runBase_219 rfl rfl rfl ?_
      refine z_goto (tgt := 2) X dX13_runBase_222 rfl ?_
      exact z_sub [2, 3, 4, 0] rfl (hC2 _ _ _ _ h)
    · have h := h.2 c4
      exact z_sub [1, 2, 4, 5] rfl (wkm_runBase_114 X K hR _ _ _ _ h)
set_option maxRecDepth 100000 in
theorem wkm_runBase_101 {Γ : ZG} {l : Launch} {D : va_G} {cr : List vw_C} {ds : Nat → ClassId} {ad : Nat → Nat} {post : Int → ZS → Prop} (X : ZX Γ cX13_runBase RX13 3 42) (K : ZCap Γ l (ΘM D cr ds ad) 8 0 0) (hR : ZRetI Γ cX13_runBase .int 0 0 post) {C2 : Int × Int × Int × ZS → Prop} (hC2 : ∀ (v1 : Int) (v2 : Int) (v3 : Int) (σ : ZS), C2 (v1, v2, v3, σ) → Z Γ 0 0 σ [] 2 [(0, .ref (ad 0)), (1, .int (iz v1)), (2, .int (iz v2)), (3, .int (iz v3))] []) (v1 : Int) (v2 : Int) (v3 : Int) (v5 : Int) (σ : ZS) (h : wm_runBase_101 C2 post v1 v2 v3 v5 σ) : Z Γ 0 0 σ [] 101 [(0, .ref (ad 0)), (1, .int (iz v1)), (2, .int (iz v2)), (3, .int (iz v3)), (5, .int (iz v5))] [] := by
  refine z_iconst X 0 dX13_runBase_101 ?_
  exact z_sub [0, 1, 2, 3, 4] rfl (wkm_runBase_102 X K hR hC2 _ _ _ _ _ _ h)
set_option maxRecDepth 100000 in
theorem wkm_runBase_64 {Γ : ZG} {l : Launch} {D : va_G} {cr : List vw_C} {ds : Nat → ClassId} {ad : Nat → Nat} {post : Int → ZS → Prop} (X : ZX Γ cX13_runBase RX13 3 42) (K : ZCap Γ l (ΘM D cr ds ad) 8 0 0) (hR : ZRetI Γ cX13_runBase .int 0 0 post) {C2 : Int × Int × Int × ZS → Prop} (hC2 : ∀ (v1 : Int) (v2 : Int) (v3 : Int) (σ : ZS), C2 (v1, v2, v3, σ) → Z Γ 0 0 σ [] 2 [(0, .ref (ad 0)), (1, .int (iz v1)), (2, .int (iz v2)), (3, .int (iz v3))] []) (v1 : Int) (v2 : Int) (v3 : Int) (t0 : Int) (σ : ZS) (h : wm_runBase_64 C2 post v1 v2 v3 t0 σ) : Z Γ 0 0 σ [] 64 [(0, .ref (ad 0)), (1, .int (iz v1)), (2, .int (iz v2)), (3, .int (iz v3))] [.int (iz t0)] := by
  refine z_istoreK X K (lv' := [(5, .int (iz t0)), (0, .ref (ad 0)), (1, .int (iz v1)), (2, .int (iz v2)), (3, .int (iz v3))]) dX13_runBase_64 rfl rfl ?_
  refine z_aload_n X 1 dX13_runBase_66 rfl ?_
  refine gM_48 X K dX13_runBase_67 ?_
  obtain ⟨i1, h⟩ := h
  refine z_if_ne X 101 dX13_runBase_70 rfl i1 (fun c2 => ?_) (fun c2 => ?_)
  · have h := h.1 c2
    exact z_sub [1, 2, 3, 4, 0] rfl (wkm_runBase_101 X K hR hC2 _ _ _ _ _ h)
  · have h := h.2 c2
    refine z_aload_n X 1 dX13_runBase_73 rfl ?_
    refine gM_47 X K dX13_runBase_74 ?_
    obtain ⟨i3, h⟩ := h
    refine z_if_ne X 101 dX13_runBase_77 rfl i3 (fun c4 => ?_) (fun c4 => ?_)
    · have h := h.1 c4
      exact z_sub [1, 2, 3, 4, 0] rfl (wkm_runBase_101 X K hR hC2 _ _ _ _ _ h)
    · have h := h.2 c4
      refine z_iload_n X 2 dX13_runBase_80 rfl ?_
      refine z_iload_n X 4 dX13_runBase_81 rfl ?_
      refine z_iadd X dX13_runBase_82 ?_
      refine z_aload_n X 1 dX13_runBase_83 rfl ?_
      refine gM_11 X K dX13_runBase_84 ?_
      obtain ⟨i5, h⟩ := h
      obtain ⟨i6, h⟩ := h
      refine z_icmp_ne X 101 dX13_runBase_87 rfl i5 i6 (fun c7 => ?_) (fun c7 => ?_)
      · have h := h.1 c7
        exact z_sub [1, 2, 3, 4, 0] rfl (wkm_runBase_101 X K hR hC2 _ _ _ _ _ h)
      · have h := h.2 c7
        refine z_iload_n X 4 dX13_runBase_90 rfl ?_
        refine z_iconst X 2 dX13_runBase_91 ?_
        refine z_iadd X dX13_runBase_92 ?_
        refine z_iload_n X 3 dX13_runBase_93 rfl ?_
        obtain ⟨i8, h⟩ := h
        obtain ⟨i9, h⟩ := h
        refine z_icmp_ne X 101 dX13_runBase_94 rfl i8 i9 (fun c10 => ?_) (fun c10 => ?_)
        · have h := h.1 c10
          exact z_sub [1, 2, 3, 4, 0] rfl (wkm_runBase_101 X K hR hC2 _ _ _ _ _ h)
        · have h := h.2 c10
          refine z_iconst X 1 dX13_runBase_97 ?_
          refine z_goto (tgt := 102) X dX13_runBase_98 rfl ?_
          exact z_sub [1, 2, 3, 4, 0] rfl (wkm_runBase_102 X K hR hC2 _ _ _ _ _ _ h)
set_option maxRecDepth 100000 in
theorem wkm_runBase_63 {Γ : ZG} {l : Launch} {D : va_G} {cr : List vw_C} {ds : Nat → ClassId} {ad : Nat → Nat} {post : Int → ZS → Prop} (X : ZX Γ cX13_runBase RX13 3 42) (K : ZCap Γ l (ΘM D cr ds ad) 8 0 0) (hR : ZRetI Γ cX13_runBase .int 0 0 post) {C2 : Int × Int × Int × ZS → Prop} (hC2 : ∀ (v1 : Int) (v2 : Int) (v3 : Int) (σ : ZS), C2 (v1, v2, v3, σ) → Z Γ 0 0 σ [] 2 [(0, .ref (ad 0)), (1, .int (iz v1)), (2, .int (iz v2)), (3, .int (iz v3))] []) (v1 : Int) (v2 : Int) (v3 : Int) (σ : ZS) (h : wm_runBase_63 C2 post v1 v2 v3 σ) : Z Γ 0 0 σ [] 63 [(0, .ref (ad 0)), (1, .int (iz v1)), (2, .int (iz v2)), (3, .int (iz v3))] [] := by
  refine z_iconst X 0 dX13_runBase_63 ?_
  exact z_sub [0, 1, 2, 3] rfl (wkm_runBase_64 X K hR hC2 _ _ _ _ _ h)
set_option maxRecDepth 100000 in
theorem wkm_runBase_25 {Γ : ZG} {l : Launch} {D : va_G} {cr : List vw_C} {ds : Nat → ClassId} {ad : Nat → Nat} {post : Int → ZS → Prop} (X : ZX Γ cX13_runBase RX13 3 42) (K : ZCap Γ l (ΘM D cr ds ad) 8 0 0) (hR : ZRetI Γ cX13_runBase .int 0 0 post) {C2 : Int × Int × Int × ZS → Prop} (hC2 : ∀ (v1 : Int) (v2 : Int) (v3 : Int) (σ : ZS), C2 (v1, v2, v3, σ) → Z Γ 0 0 σ [] 2 [(0, .ref (ad 0)), (1, .int (iz v1)), (2, .int (iz v2)), (3, .int (iz v3))] []) (v1 : Int) (v2 : Int) (v3 : Int) (t0 : Int) (t1 : Int) (σ : ZS) (h : wm_runBase_25 C2 post v1 v2 v3 t0 t1 σ) : Z Γ 0 0 σ [] 25 [(0, .ref (ad 0)), (1, .int (iz v1)), (2, .int (iz v2)), (3, .int (iz v3))] [.int (iz t0), .int (iz t1)] := by
  refine z_iadd X dX13_runBase_25 ?_
  refine z_topi (fun v4_1 ev4_1 => ?_)
  have h := h v4_1 ev4_1
  refine z_istoreK X K (lv' := [(4, .int (iz v4_1)), (0, .ref (ad 0)), (1, .int (iz v1)), (2, .int (iz v2)), (3, .int (iz v3))]) dX13_runBase_26 rfl rfl ?_
  refine z_iload_n X 4 dX13_runBase_28 rfl ?_
  refine z_sipush X 1755 dX13_runBase_29 rfl ?_
  obtain ⟨i2, h⟩ := h
  refine z_icmp_gt X 63 dX13_runBase_32 rfl i2 (by decide) (fun c3 => ?_) (fun c3 => ?_)
  · have h := h.1 c3
    exact z_sub [1, 2, 3, 4] rfl (wkm_runBase_63 X K hR hC2 _ _ _ _ h)
  · have h := h.2 c3
    refine z_iload X 0 dX13_runBase_35 rfl ?_
    refine z_iload_n X 3 dX13_runBase_37 rfl ?_
    obtain ⟨i4, h⟩ := h
    obtain ⟨i5, h⟩ := h
    refine z_icmp_gt X 63 dX13_runBase_38 rfl i4 i5 (fun c6 => ?_) (fun c6 => ?_)
    · have h := h.1 c6
      exact z_sub [1, 2, 3, 4] rfl (wkm_runBase_63 X K hR hC2 _ _ _ _ h)
    · have h := h.2 c6
      refine z_aload_n X 1 dX13_runBase_41 rfl ?_
      refine z_aload_n X 1 dX13_runBase_42 rfl ?_
      refine gM_49 X K dX13_runBase_43 ?_
      refine z_iload_n X 2 dX13_runBase_46 rfl ?_
      refine z_iload_n X 4 dX13_runBase_47 rfl ?_
      refine z_iadd X dX13_runBase_48 ?_
      refine z_iload_n X 3 dX13_runBase_49 rfl ?_
      refine z_iload X 0 dX13_runBase_50 rfl ?_
      refine z_isub X dX13_runBase_52 ?_
      refine clm_has X K rfl h (Nat.le_of_ble_eq_true rfl) dX13_runBase_53 (fun r8 σ7 h => ?_)
      obtain ⟨b8, h⟩ := h
      have h := h b8
      refine z_if_eq X 63 dX13_runBase_56 rfl (InR_b b8) (fun c10 => ?_) (fun c10 => ?_)
      · have h := h.1 c10
        exact z_sub [1, 2, 3, 4] rfl (wkm_runBase_63 X K hR hC2 _ _ _ _ h)
      · have h := h.2 c10
        refine z_iconst X 1 dX13_runBase_59 ?_
        refine z_goto (tgt := 64) X dX13_runBase_60 rfl ?_
        exact z_sub [1, 2, 3, 4] rfl (wkm_runBase_64 X K hR hC2 _ _ _ _ _ h)
set_option maxRecDepth 100000 in
theorem wkm_runBase_2 {Γ : ZG} {l : Launch} {D : va_G} {cr : List vw_C} {ds : Nat → ClassId} {ad : Nat → Nat} {post : Int → ZS → Prop} (X : ZX Γ cX13_runBase RX13 3 42) (K : ZCap Γ l (ΘM D cr ds ad) 8 0 0) (hR : ZRetI Γ cX13_runBase .int 0 0 post) : ∀ (N : Nat) (v1 : Int) (v2 : Int) (v3 : Int) (σ : ZS), zfix (wbm_runBase_2 post) N (v1, v2, v3, σ) → Z Γ 0 0 σ [] 2 [(0, .ref (ad 0)), (1, .int (iz v1)), (2, .int (iz v2)), (3, .int (iz v3))] [] := by
  intro N
  induction N with
  | zero => intro v1 v2 v3 σ h; exact False.elim h
  | succ N ih =>
    intro v1 v2 v3 σ h
    have h : wbm_runBase_2 post (zfix (wbm_runBase_2 post) N) (v1, v2, v3, σ) := h
    have hC2 := ih
    clear ih
    generalize zfix (wbm_runBase_2 post) N = C2 at h hC2
    dsimp only [wbm_runBase_2] at h
    refine z_iload_n X 3 dX13_runBase_2 rfl ?_
    refine z_aload_n X 0 dX13_runBase_3 rfl ?_
    refine gM_11 X K dX13_runBase_4 ?_
    refine z_iload_n X 1 dX13_runBase_7 rfl ?_
    refine z_isub X dX13_runBase_8 ?_
    obtain ⟨i1, h⟩ := h
    obtain ⟨i2, h⟩ := h
    refine z_icmp_gt X 225 dX13_runBase_9 rfl i1 i2 (fun c3 => ?_) (fun c3 => ?_)
    · have h := h.1 c3
      refine z_iconst X 0 dX13_runBase_225 ?_
      exact hR _ _ _ _ _ _ _ dX13_runBase_226 rfl (Nat.le_refl 0) (Nat.le_refl 0) h
    · have h := h.2 c3
      refine z_iload_n X 3 dX13_runBase_12 rfl ?_
      refine z_iload_n X 3 dX13_runBase_13 rfl ?_
      refine z_sipush X 250 dX13_runBase_14 rfl ?_
      refine z_icmp_ge X 24 dX13_runBase_17 rfl i1 (by decide) (fun c4 => ?_) (fun c4 => ?_)
      · have h := h.1 c4
        refine z_iconst X 3 dX13_runBase_24 ?_
        exact z_sub [0, 1, 2, 3] rfl (wkm_runBase_25 X K hR hC2 _ _ _ _ _ _ h)
      · have h := h.2 c4
        refine z_iconst X 2 dX13_runBase_20 ?_
        refine z_goto (tgt := 25) X dX13_runBase_21 rfl ?_
        exact z_sub [0, 1, 2, 3] rfl (wkm_runBase_25 X K hR hC2 _ _ _ _ _ _ h)
set_option maxRecDepth 100000 in
theorem mt_runBase (l : Launch) (D : va_G) (cr : List vw_C) (ds : Nat → ClassId) (ad : Nat → Nat) (a0 : Int) (a1 : Int) (σ : ZS) (post : Int → ZS → Prop) (h : wm_runBase a0 a1 σ post) : ZMetI l (ΘM D cr ds ad) yX13_runBase cX13_runBase 8 .int 3 42 0 0 [.ref (ad 0), .int (iz a0), .int (iz a1)] σ post := by
  refine ZMetI.of (by decide) (Nat.le_of_ble_eq_true rfl) (fun Γ X K hR => ?_)
  have X : ZX Γ cX13_runBase RX13 3 42 := X
  refine z_sub [0, 1, 2] (lv' := [(0, .ref (ad 0)), (1, .int (iz a0)), (2, .int (iz a1))]) rfl ?_
  refine z_iconst X 1 dX13_runBase_0 ?_
  refine z_istore_nK X K (lv' := [(3, .int (iz 1)), (0, .ref (ad 0)), (1, .int (iz a0)), (2, .int (iz a1))]) dX13_runBase_1 rfl rfl ?_
  obtain ⟨N, h⟩ := h
  exact z_sub [1, 2, 3, 0] rfl (wkm_runBase_2 X K hR N _ _ _ _ h)
set_option maxRecDepth 100000 in
theorem clm_runBase {Γ : ZG} {cc : ByteArray} {fr lo nL pc : Nat} {lv : List (Nat × Value)} {st : List Value} {l : Launch} {D : va_G} {cr : List vw_C} {ds : Nat → ClassId} {ad : Nat → Nat} {a0 : Int} {a1 : Int} {σ : ZS} {post : Int → ZS → Prop} (X : ZX Γ cc RX13 fr lo) (K : ZCap Γ l (ΘM D cr ds ad) nL 0 0) (hrm : zroom 4 69 fr lo = true) (h : wm_runBase a0 a1 σ post) (hst : (st.map fun v => v.category).sum ≤ 8) (d : decode cc pc = .ok (.invokevirtual 387, 3)) (kk : ∀ (r : Int) (σ' : ZS), post r σ' → Z Γ 0 0 σ' [] (pc + 3) lv (.int (iz r) :: st)) : Z Γ 0 0 σ [] pc lv (.int (iz a1) :: .int (iz a0) :: .ref (ad 0) :: st) :=
  z_callVI' (C := RX13) (q0 := 0) X K (mt_runBase l D cr ds ad a0 a1 σ post h) (Nat.le_of_ble_eq_true rfl) rfl rfl rfl (lw_V q1681 q1683 qs96 q127 q1684) ⟨rfl, by decide, by decide, rfl⟩ (zroom_of hrm) ⟨Nat.zero_le _, Nat.zero_le _⟩ hst d rfl kk
/- X13_endsOpen -/
set_option maxRecDepth 100000 in
theorem mt_endsOpen (l : Launch) (D : va_G) (cr : List vw_C) (ds : Nat → ClassId) (ad : Nat → Nat) (a0 : Int) (a1 : Int) (a2 : Int) (σ : ZS) (post : Int → ZS → Prop) (h : wm_endsOpen a0 a1 a2 σ post) : ZMetI l (ΘM D cr ds ad) yX13_endsOpen cX13_endsOpen 4 .boolean 4 64 0 0 [.ref (ad 0), .int (iz a0), .int (iz a1), .int (iz a2)] σ (fun r σ => (r = 0 ∨ r = 1) ∧ post r σ) := by
  refine ZMetI.of (by decide) (Nat.le_of_ble_eq_true rfl) (fun Γ X K hR => ?_)
  have X : ZX Γ cX13_endsOpen RX13 4 64 := X
  refine z_sub [0, 1, 2, 3] (lv' := [(0, .ref (ad 0)), (1, .int (iz a0)), (2, .int (iz a1)), (3, .int (iz a2))]) rfl ?_
  refine z_aload_n X 0 dX13_endsOpen_0 rfl ?_
  refine gM_48 X K dX13_endsOpen_1 ?_
  obtain ⟨i1, h⟩ := h
  refine z_if_ne X 34 dX13_endsOpen_4 rfl i1 (fun c2 => ?_) (fun c2 => ?_)
  · have h := h.1 c2
    refine z_iconst X 0 dX13_endsOpen_34 ?_
    exact hR _ _ _ _ _ _ _ dX13_endsOpen_35 (z_nb (Or.inl rfl)) (Nat.le_refl 0) (Nat.le_refl 0) ⟨(Or.inl rfl), h⟩
  · have h := h.2 c2
    refine z_iload_n X 2 dX13_endsOpen_7 rfl ?_
    obtain ⟨i3, h⟩ := h
    refine z_if_lt X 34 dX13_endsOpen_8 rfl i3 (fun c4 => ?_) (fun c4 => ?_)
    · have h := h.1 c4
      refine z_iconst X 0 dX13_endsOpen_34 ?_
      exact hR _ _ _ _ _ _ _ dX13_endsOpen_35 (z_nb (Or.inl rfl)) (Nat.le_refl 0) (Nat.le_refl 0) ⟨(Or.inl rfl), h⟩
    · have h := h.2 c4
      refine z_iload_n X 2 dX13_endsOpen_11 rfl ?_
      refine z_iload_n X 3 dX13_endsOpen_12 rfl ?_
      refine z_aload_n X 0 dX13_endsOpen_13 rfl ?_
      refine gM_47 X K dX13_endsOpen_14 ?_
      refine z_isub X dX13_endsOpen_17 ?_
      obtain ⟨i5, h⟩ := h
      refine z_icmp_gt X 34 dX13_endsOpen_18 rfl i3 i5 (fun c6 => ?_) (fun c6 => ?_)
      · have h := h.1 c6
        refine z_iconst X 0 dX13_endsOpen_34 ?_
        exact hR _ _ _ _ _ _ _ dX13_endsOpen_35 (z_nb (Or.inl rfl)) (Nat.le_refl 0) (Nat.le_refl 0) ⟨(Or.inl rfl), h⟩
      · have h := h.2 c6
        refine z_aload_n X 0 dX13_endsOpen_21 rfl ?_
        refine z_iload_n X 1 dX13_endsOpen_22 rfl ?_
        refine z_iload_n X 2 dX13_endsOpen_23 rfl ?_
        refine clm_isTail X K rfl h (Nat.le_of_ble_eq_true rfl) dX13_endsOpen_24 (fun r8 σ7 h => ?_)
        obtain ⟨b8, h⟩ := h
        have h := h b8
        refine z_if_eq X 34 dX13_endsOpen_27 rfl (InR_b b8) (fun c10 => ?_) (fun c10 => ?_)
        · have h := h.1 c10
          refine z_iconst X 0 dX13_endsOpen_34 ?_
          exact hR _ _ _ _ _ _ _ dX13_endsOpen_35 (z_nb (Or.inl rfl)) (Nat.le_refl 0) (Nat.le_refl 0) ⟨(Or.inl rfl), h⟩
        · have h := h.2 c10
          refine z_iconst X 1 dX13_endsOpen_30 ?_
          refine z_goto (tgt := 35) X dX13_endsOpen_31 rfl ?_
          exact hR _ _ _ _ _ _ _ dX13_endsOpen_35 (z_nb (Or.inr rfl)) (Nat.le_refl 0) (Nat.le_refl 0) ⟨(Or.inr rfl), h⟩
set_option maxRecDepth 100000 in
theorem clm_endsOpen {Γ : ZG} {cc : ByteArray} {fr lo nL pc : Nat} {lv : List (Nat × Value)} {st : List Value} {l : Launch} {D : va_G} {cr : List vw_C} {ds : Nat → ClassId} {ad : Nat → Nat} {a0 : Int} {a1 : Int} {a2 : Int} {σ : ZS} {post : Int → ZS → Prop} (X : ZX Γ cc RX13 fr lo) (K : ZCap Γ l (ΘM D cr ds ad) nL 0 0) (hrm : zroom 5 87 fr lo = true) (h : wm_endsOpen a0 a1 a2 σ post) (hst : (st.map fun v => v.category).sum ≤ 8) (d : decode cc pc = .ok (.invokevirtual 396, 3)) (kk : ∀ (r : Int) (σ' : ZS), (fun r σ => (r = 0 ∨ r = 1) ∧ post r σ) r σ' → Z Γ 0 0 σ' [] (pc + 3) lv (.int (iz r) :: st)) : Z Γ 0 0 σ [] pc lv (.int (iz a2) :: .int (iz a1) :: .int (iz a0) :: .ref (ad 0) :: st) :=
  z_callVI' (C := RX13) (q0 := 0) X K (mt_endsOpen l D cr ds ad a0 a1 a2 σ post h) (Nat.le_of_ble_eq_true rfl) rfl rfl rfl (lw_V q1693 q1695 qs99 q127 q1696) ⟨rfl, by decide, by decide, rfl⟩ (zroom_of hrm) ⟨Nat.zero_le _, Nat.zero_le _⟩ hst d rfl kk
/- X13_isSix -/
set_option maxRecDepth 100000 in
theorem mt_isSix (l : Launch) (D : va_G) (cr : List vw_C) (ds : Nat → ClassId) (ad : Nat → Nat) (a0 : Int) (σ : ZS) (post : Int → ZS → Prop) (h : wm_isSix a0 σ post) : ZMetI l (ΘM D cr ds ad) yX13_isSix cX13_isSix 1 .boolean 1 0 0 0 [.int (iz a0)] σ (fun r σ => (r = 0 ∨ r = 1) ∧ post r σ) := by
  refine ZMetI.of (by decide) (Nat.le_of_ble_eq_true rfl) (fun Γ X K hR => ?_)
  have X : ZX Γ cX13_isSix RX13 1 0 := X
  refine z_sub [0] (lv' := [(0, .int (iz a0))]) rfl ?_
  refine z_iload_n X 0 dX13_isSix_0 rfl ?_
  refine z_bipush X 32 dX13_isSix_1 rfl ?_
  obtain ⟨i1, h⟩ := h
  refine z_icmp_lt X 16 dX13_isSix_3 rfl i1 (by decide) (fun c2 => ?_) (fun c2 => ?_)
  · have h := h.1 c2
    refine z_iconst X 0 dX13_isSix_16 ?_
    exact hR _ _ _ _ _ _ _ dX13_isSix_17 (z_nb (Or.inl rfl)) (Nat.le_refl 0) (Nat.le_refl 0) ⟨(Or.inl rfl), h⟩
  · have h := h.2 c2
    refine z_iload_n X 0 dX13_isSix_6 rfl ?_
    refine z_bipush X 94 dX13_isSix_7 rfl ?_
    refine z_icmp_gt X 16 dX13_isSix_9 rfl i1 (by decide) (fun c3 => ?_) (fun c3 => ?_)
    · have h := h.1 c3
      refine z_iconst X 0 dX13_isSix_16 ?_
      exact hR _ _ _ _ _ _ _ dX13_isSix_17 (z_nb (Or.inl rfl)) (Nat.le_refl 0) (Nat.le_refl 0) ⟨(Or.inl rfl), h⟩
    · have h := h.2 c3
      refine z_iconst X 1 dX13_isSix_12 ?_
      refine z_goto (tgt := 17) X dX13_isSix_13 rfl ?_
      exact hR _ _ _ _ _ _ _ dX13_isSix_17 (z_nb (Or.inr rfl)) (Nat.le_refl 0) (Nat.le_refl 0) ⟨(Or.inr rfl), h⟩
set_option maxRecDepth 100000 in
theorem clm_isSix {Γ : ZG} {cc : ByteArray} {fr lo nL pc : Nat} {lv : List (Nat × Value)} {st : List Value} {l : Launch} {D : va_G} {cr : List vw_C} {ds : Nat → ClassId} {ad : Nat → Nat} {a0 : Int} {σ : ZS} {post : Int → ZS → Prop} (X : ZX Γ cc RX13 fr lo) (K : ZCap Γ l (ΘM D cr ds ad) nL 0 0) (hrm : zroom 2 20 fr lo = true) (h : wm_isSix a0 σ post) (hst : (st.map fun v => v.category).sum ≤ 8) (d : decode cc pc = .ok (.invokestatic 350, 3)) (kk : ∀ (r : Int) (σ' : ZS), (fun r σ => (r = 0 ∨ r = 1) ∧ post r σ) r σ' → Z Γ 0 0 σ' [] (pc + 3) lv (.int (iz r) :: st)) : Z Γ 0 0 σ [] pc lv (.int (iz a0) :: st) :=
  z_callSI' X K (mt_isSix l D cr ds ad a0 σ post h) (lw_S q1620 q1621 q127 q1622) ⟨by decide, by decide, rfl⟩ (zroom_of hrm) ⟨Nat.zero_le _, Nat.zero_le _⟩ hst d rfl kk
/- X13_lastWords -/
set_option maxRecDepth 100000 in
theorem mt_lastWords (l : Launch) (D : va_G) (cr : List vw_C) (ds : Nat → ClassId) (ad : Nat → Nat) (a0 : Int) (σ : ZS) (post : Int → ZS → Prop) (h : wm_lastWords a0 σ post) : ZMetI l (ΘM D cr ds ad) yX13_lastWords cX13_lastWords 1 .int 1 0 0 0 [.int (iz a0)] σ post := by
  refine ZMetI.of (by decide) (Nat.le_of_ble_eq_true rfl) (fun Γ X K hR => ?_)
  have X : ZX Γ cX13_lastWords RX13 1 0 := X
  refine z_sub [0] (lv' := [(0, .int (iz a0))]) rfl ?_
  refine z_iload_n X 0 dX13_lastWords_0 rfl ?_
  obtain ⟨i1, h⟩ := h
  refine z_if_ne X 8 dX13_lastWords_1 rfl i1 (fun c2 => ?_) (fun c2 => ?_)
  · have h := h.1 c2
    refine z_iload_n X 0 dX13_lastWords_8 rfl ?_
    refine z_iconst X 1 dX13_lastWords_9 ?_
    refine z_icmp_ne X 17 dX13_lastWords_10 rfl i1 (by decide) (fun c3 => ?_) (fun c3 => ?_)
    · have h := h.1 c3
      refine z_iconst X 3 dX13_lastWords_17 ?_
      exact hR _ _ _ _ _ _ _ dX13_lastWords_18 rfl (Nat.le_refl 0) (Nat.le_refl 0) h
    · have h := h.2 c3
      refine z_iconst X 2 dX13_lastWords_13 ?_
      refine z_goto (tgt := 18) X dX13_lastWords_14 rfl ?_
      exact hR _ _ _ _ _ _ _ dX13_lastWords_18 rfl (Nat.le_refl 0) (Nat.le_refl 0) h
  · have h := h.2 c2
    refine z_iconst X 1 dX13_lastWords_4 ?_
    refine z_goto (tgt := 18) X dX13_lastWords_5 rfl ?_
    exact hR _ _ _ _ _ _ _ dX13_lastWords_18 rfl (Nat.le_refl 0) (Nat.le_refl 0) h
set_option maxRecDepth 100000 in
theorem clm_lastWords {Γ : ZG} {cc : ByteArray} {fr lo nL pc : Nat} {lv : List (Nat × Value)} {st : List Value} {l : Launch} {D : va_G} {cr : List vw_C} {ds : Nat → ClassId} {ad : Nat → Nat} {a0 : Int} {σ : ZS} {post : Int → ZS → Prop} (X : ZX Γ cc RX13 fr lo) (K : ZCap Γ l (ΘM D cr ds ad) nL 0 0) (hrm : zroom 2 20 fr lo = true) (h : wm_lastWords a0 σ post) (hst : (st.map fun v => v.category).sum ≤ 8) (d : decode cc pc = .ok (.invokestatic 332, 3)) (kk : ∀ (r : Int) (σ' : ZS), post r σ' → Z Γ 0 0 σ' [] (pc + 3) lv (.int (iz r) :: st)) : Z Γ 0 0 σ [] pc lv (.int (iz a0) :: st) :=
  z_callSI' X K (mt_lastWords l D cr ds ad a0 σ post h) (lw_S q1643 q1644 q127 q1645) ⟨by decide, by decide, rfl⟩ (zroom_of hrm) ⟨Nat.zero_le _, Nat.zero_le _⟩ hst d rfl kk
/- X13_putSixes -/
set_option maxRecDepth 100000 in
theorem wkm_putSixes_131 {Γ : ZG} {l : Launch} {D : va_G} {cr : List vw_C} {ds : Nat → ClassId} {ad : Nat → Nat} {post : ZS → Prop} (X : ZX Γ cX13_putSixes RX13 2 21) (K : ZCap Γ l (ΘM D cr ds ad) 7 0 0) (hR : ZRetV Γ cX13_putSixes 0 0 post) : ∀ (N : Nat) (v4 : Int) (v5 : Int) (v6 : Int) (σ : ZS), zfix (wbm_putSixes_131 post) N (v4, v5, v6, σ) → Z Γ 0 0 σ [] 131 [(0, .ref (ad 0)), (4, .int (iz v4)), (5, .int (iz v5)), (6, .int (iz v6))] [] := by
  intro N
  induction N with
  | zero => intro v4 v5 v6 σ h; exact False.elim h
  | succ N ih =>
    intro v4 v5 v6 σ h
    have h : wbm_putSixes_131 post (zfix (wbm_putSixes_131 post) N) (v4, v5, v6, σ) := h
    have hC131 := ih
    clear ih
    generalize zfix (wbm_putSixes_131 post) N = C131 at h hC131
    dsimp only [wbm_putSixes_131] at h
    refine z_iload X 3 dX13_putSixes_131 rfl ?_
    refine z_iload X 2 dX13_putSixes_133 rfl ?_
    obtain ⟨i1, h⟩ := h
    obtain ⟨i2, h⟩ := h
    refine z_icmp_ge X 163 dX13_putSixes_135 rfl i1 i2 (fun c3 => ?_) (fun c3 => ?_)
    · have h := h.1 c3
      exact hR _ _ _ _ _ _ dX13_putSixes_163 (Nat.le_refl 0) (Nat.le_refl 0) h
    · have h := h.2 c3
      refine z_aload_n X 0 dX13_putSixes_138 rfl ?_
      refine z_iload X 1 dX13_putSixes_139 rfl ?_
      refine z_bipush X 16 dX13_putSixes_141 rfl ?_
      refine z_bipush X 8 dX13_putSixes_143 rfl ?_
      refine z_iload X 3 dX13_putSixes_145 rfl ?_
      refine z_imul X dX13_putSixes_147 ?_
      refine z_isub X dX13_putSixes_148 ?_
      refine z_ishr X dX13_putSixes_149 ?_
      refine z_sipush X 255 dX13_putSixes_150 rfl ?_
      refine z_iandm X 8 (M := 256) rfl rfl rfl dX13_putSixes_153 ?_
      refine clm_put X K rfl h (Nat.le_of_ble_eq_true rfl) dX13_putSixes_154 (fun σ4 h => ?_)
      refine z_iincK X K 3 (lv' := [(6, .int (iz (v6 + 1))), (0, .ref (ad 0)), (4, .int (iz v4)), (5, .int (iz v5))]) dX13_putSixes_157 rfl rfl rfl ?_
      refine z_goto (tgt := 131) X dX13_putSixes_160 rfl ?_
      exact z_sub [1, 2, 3, 0] rfl (hC131 _ _ _ _ h)
set_option maxRecDepth 100000 in
theorem wkm_putSixes_60 {Γ : ZG} {l : Launch} {D : va_G} {cr : List vw_C} {ds : Nat → ClassId} {ad : Nat → Nat} {post : ZS → Prop} (X : ZX Γ cX13_putSixes RX13 2 21) (K : ZCap Γ l (ΘM D cr ds ad) 7 0 0) (hR : ZRetV Γ cX13_putSixes 0 0 post) {C16 : Int × Int × Int × Int × Int × Int × ZS → Prop} (hC16 : ∀ (v1 : Int) (v2 : Int) (v3 : Int) (v4 : Int) (v5 : Int) (v6 : Int) (σ : ZS), C16 (v1, v2, v3, v4, v5, v6, σ) → Z Γ 0 0 σ [] 16 [(0, .ref (ad 0)), (1, .int (iz v1)), (2, .int (iz v2)), (3, .int (iz v3)), (4, .int (iz v4)), (5, .int (iz v5)), (6, .int (iz v6))] []) (v1 : Int) (v2 : Int) (v3 : Int) (v5 : Int) (v6 : Int) (t0 : Int) (t1 : Int) (σ : ZS) (h : wm_putSixes_60 C16 post v1 v2 v3 v5 v6 t0 t1 σ) : Z Γ 0 0 σ [] 60 [(0, .ref (ad 0)), (1, .int (iz v1)), (2, .int (iz v2)), (3, .int (iz v3)), (5, .int (iz v5)), (6, .int (iz v6))] [.int (iz t0), .int (iz t1)] := by
  refine z_ior X dX13_putSixes_60 ?_
  refine z_topi (fun v4_1 ev4_1 => ?_)
  have h := h v4_1 ev4_1
  refine z_istoreK X K (lv' := [(4, .int (iz v4_1)), (0, .ref (ad 0)), (1, .int (iz v1)), (2, .int (iz v2)), (3, .int (iz v3)), (5, .int (iz v5)), (6, .int (iz v6))]) dX13_putSixes_61 rfl rfl ?_
  refine z_iincK X K 5 (lv' := [(5, .int (iz (v5 + 1))), (4, .int (iz v4_1)), (0, .ref (ad 0)), (1, .int (iz v1)), (2, .int (iz v2)), (3, .int (iz v3)), (6, .int (iz v6))]) dX13_putSixes_63 rfl rfl rfl ?_
  refine z_iload X 0 dX13_putSixes_66 rfl ?_
  refine z_iconst X 4 dX13_putSixes_68 ?_
  obtain ⟨i2, h⟩ := h
  refine z_icmp_ne X 110 dX13_putSixes_69 rfl i2 (by decide) (fun c3 => ?_) (fun c3 => ?_)
  · have h := h.1 c3
    refine z_iincK X K 6 (lv' := [(6, .int (iz (v6 + 1))), (5, .int (iz (v5 + 1))), (4, .int (iz v4_1)), (0, .ref (ad 0)), (1, .int (iz v1)), (2, .int (iz v2)), (3, .int (iz v3))]) dX13_putSixes_110 rfl rfl rfl ?_
    refine z_goto (tgt := 16) X dX13_putSixes_113 rfl ?_
    exact z_sub [3, 4, 5, 6, 2, 1, 0] rfl (hC16 _ _ _ _ _ _ _ h)
  · have h := h.2 c3
    refine z_aload_n X 2 dX13_putSixes_72 rfl ?_
    refine z_iload X 1 dX13_putSixes_73 rfl ?_
    refine z_bipush X 16 dX13_putSixes_75 rfl ?_
    obtain ⟨i4, h⟩ := h
    refine z_ishrm X 16 (M := 65536) rfl rfl rfl dX13_putSixes_77 i4 ?_
    refine clm_put X K rfl h (Nat.le_of_ble_eq_true rfl) dX13_putSixes_78 (fun σ5 h => ?_)
    refine z_aload_n X 2 dX13_putSixes_81 rfl ?_
    refine z_iload X 1 dX13_putSixes_82 rfl ?_
    refine z_bipush X 8 dX13_putSixes_84 rfl ?_
    refine z_ishrm X 8 (M := 256) rfl rfl rfl dX13_putSixes_86 i4 ?_
    refine z_sipush X 255 dX13_putSixes_87 rfl ?_
    refine z_iandm X 8 (M := 256) rfl rfl rfl dX13_putSixes_90 ?_
    refine clm_put X K rfl h (Nat.le_of_ble_eq_true rfl) dX13_putSixes_91 (fun σ6 h => ?_)
    refine z_aload_n X 2 dX13_putSixes_94 rfl ?_
    refine z_iload X 1 dX13_putSixes_95 rfl ?_
    refine z_sipush X 255 dX13_putSixes_97 rfl ?_
    refine z_iandm X 8 (M := 256) rfl rfl rfl dX13_putSixes_100 ?_
    refine clm_put X K rfl h (Nat.le_of_ble_eq_true rfl) dX13_putSixes_101 (fun σ7 h => ?_)
    refine z_iconst X 0 dX13_putSixes_104 ?_
    refine z_istoreK X K (lv' := [(5, .int (iz 0)), (4, .int (iz v4_1)), (0, .ref (ad 0)), (1, .int (iz v1)), (2, .int (iz v2)), (3, .int (iz v3)), (6, .int (iz v6))]) dX13_putSixes_105 rfl rfl ?_
    refine z_iconst X 0 dX13_putSixes_107 ?_
    refine z_istoreK X K (lv' := [(4, .int (iz 0)), (5, .int (iz 0)), (0, .ref (ad 0)), (1, .int (iz v1)), (2, .int (iz v2)), (3, .int (iz v3)), (6, .int (iz v6))]) dX13_putSixes_108 rfl rfl ?_
    refine z_iincK X K 6 (lv' := [(6, .int (iz (v6 + 1))), (4, .int (iz 0)), (5, .int (iz 0)), (0, .ref (ad 0)), (1, .int (iz v1)), (2, .int (iz v2)), (3, .int (iz v3))]) dX13_putSixes_110 rfl rfl rfl ?_
    refine z_goto (tgt := 16) X dX13_putSixes_113 rfl ?_
    exact z_sub [3, 4, 5, 6, 1, 2, 0] rfl (hC16 _ _ _ _ _ _ _ h)
set_option maxRecDepth 100000 in
theorem wkm_putSixes_28 {Γ : ZG} {l : Launch} {D : va_G} {cr : List vw_C} {ds : Nat → ClassId} {ad : Nat → Nat} {post : ZS → Prop} (X : ZX Γ cX13_putSixes RX13 2 21) (K : ZCap Γ l (ΘM D cr ds ad) 7 0 0) (hR : ZRetV Γ cX13_putSixes 0 0 post) {C16 : Int × Int × Int × Int × Int × Int × ZS → Prop} (hC16 : ∀ (v1 : Int) (v2 : Int) (v3 : Int) (v4 : Int) (v5 : Int) (v6 : Int) (σ : ZS), C16 (v1, v2, v3, v4, v5, v6, σ) → Z Γ 0 0 σ [] 16 [(0, .ref (ad 0)), (1, .int (iz v1)), (2, .int (iz v2)), (3, .int (iz v3)), (4, .int (iz v4)), (5, .int (iz v5)), (6, .int (iz v6))] []) (v1 : Int) (v2 : Int) (v3 : Int) (v4 : Int) (v5 : Int) (v6 : Int) (t0 : Int) (t1 : Int) (t2 : Int) (σ : ZS) (h : wm_putSixes_28 C16 post v1 v2 v3 v4 v5 v6 t0 t1 t2 σ) : Z Γ 0 0 σ [] 28 [(0, .ref (ad 0)), (1, .int (iz v1)), (2, .int (iz v2)), (3, .int (iz v3)), (4, .int (iz v4)), (5, .int (iz v5)), (6, .int (iz v6))] [.int (iz t0), .int (iz t1), .int (iz t2)] := by
  refine z_iadd X dX13_putSixes_28 ?_
  obtain ⟨i1, h⟩ := h
  obtain ⟨i2, h⟩ := h
  refine z_icmp_ge X 116 dX13_putSixes_29 rfl i1 i2 (fun c3 => ?_) (fun c3 => ?_)
  · have h := h.1 c3
    refine z_iload X 4 dX13_putSixes_116 rfl ?_
    refine z_bipush X 6 dX13_putSixes_118 rfl ?_
    refine z_iconst X 4 dX13_putSixes_120 ?_
    refine z_iload X 5 dX13_putSixes_121 rfl ?_
    refine z_isub X dX13_putSixes_123 ?_
    refine z_imul X dX13_putSixes_124 ?_
    refine z_ishl X dX13_putSixes_125 ?_
    refine z_topi (fun v4_4 ev4_4 => ?_)
    have h := h v4_4 ev4_4
    refine z_istoreK X K (lv' := [(4, .int (iz v4_4)), (0, .ref (ad 0)), (1, .int (iz v1)), (2, .int (iz v2)), (3, .int (iz v3)), (5, .int (iz v5)), (6, .int (iz v6))]) dX13_putSixes_126 rfl rfl ?_
    refine z_iconst X 0 dX13_putSixes_128 ?_
    refine z_istoreK X K (lv' := [(6, .int (iz 0)), (4, .int (iz v4_4)), (0, .ref (ad 0)), (1, .int (iz v1)), (2, .int (iz v2)), (3, .int (iz v3)), (5, .int (iz v5))]) dX13_putSixes_129 rfl rfl ?_
    obtain ⟨N, h⟩ := h
    exact z_sub [2, 1, 6, 0] rfl (wkm_putSixes_131 X K hR N _ _ _ _ h)
  · have h := h.2 c3
    refine z_iload X 4 dX13_putSixes_32 rfl ?_
    refine z_bipush X 6 dX13_putSixes_34 rfl ?_
    refine z_ishlm X 6 (M := 64) rfl rfl rfl dX13_putSixes_36 ?_
    refine z_iload X 6 dX13_putSixes_37 rfl ?_
    refine z_iload_n X 2 dX13_putSixes_39 rfl ?_
    obtain ⟨i5, h⟩ := h
    obtain ⟨i6, h⟩ := h
    refine z_icmp_ge X 58 dX13_putSixes_40 rfl i5 i6 (fun c7 => ?_) (fun c7 => ?_)
    · have h := h.1 c7
      refine z_bipush X 31 dX13_putSixes_58 rfl ?_
      exact z_sub [0, 1, 2, 3, 5, 6] rfl (wkm_putSixes_60 X K hR hC16 _ _ _ _ _ _ _ _ h)
    · have h := h.2 c7
      refine z_aload_n X 0 dX13_putSixes_43 rfl ?_
      refine gM_9 X K dX13_putSixes_44 ?_
      refine z_iload_n X 1 dX13_putSixes_47 rfl ?_
      refine z_iload X 6 dX13_putSixes_48 rfl ?_
      refine z_iadd X dX13_putSixes_50 ?_
      obtain ⟨x8, h⟩ := h
      refine aM_9 X K dX13_putSixes_51 x8 ?_
      refine z_bipush X 63 dX13_putSixes_52 rfl ?_
      refine z_iandm X 6 (M := 64) rfl rfl rfl dX13_putSixes_54 ?_
      refine z_goto (tgt := 60) X dX13_putSixes_55 rfl ?_
      exact z_sub [0, 1, 2, 3, 5, 6] rfl (wkm_putSixes_60 X K hR hC16 _ _ _ _ _ _ _ _ h)
set_option maxRecDepth 100000 in
theorem wkm_putSixes_16 {Γ : ZG} {l : Launch} {D : va_G} {cr : List vw_C} {ds : Nat → ClassId} {ad : Nat → Nat} {post : ZS → Prop} (X : ZX Γ cX13_putSixes RX13 2 21) (K : ZCap Γ l (ΘM D cr ds ad) 7 0 0) (hR : ZRetV Γ cX13_putSixes 0 0 post) : ∀ (N : Nat) (v1 : Int) (v2 : Int) (v3 : Int) (v4 : Int) (v5 : Int) (v6 : Int) (σ : ZS), zfix (wbm_putSixes_16 post) N (v1, v2, v3, v4, v5, v6, σ) → Z Γ 0 0 σ [] 16 [(0, .ref (ad 0)), (1, .int (iz v1)), (2, .int (iz v2)), (3, .int (iz v3)), (4, .int (iz v4)), (5, .int (iz v5)), (6, .int (iz v6))] [] := by
  intro N
  induction N with
  | zero => intro v1 v2 v3 v4 v5 v6 σ h; exact False.elim h
  | succ N ih =>
    intro v1 v2 v3 v4 v5 v6 σ h
    have h : wbm_putSixes_16 post (zfix (wbm_putSixes_16 post) N) (v1, v2, v3, v4, v5, v6, σ) := h
    have hC16 := ih
    clear ih
    generalize zfix (wbm_putSixes_16 post) N = C16 at h hC16
    dsimp only [wbm_putSixes_16] at h
    refine z_iload X 6 dX13_putSixes_16 rfl ?_
    refine z_iload_n X 2 dX13_putSixes_18 rfl ?_
    refine z_iload_n X 3 dX13_putSixes_19 rfl ?_
    obtain ⟨i1, h⟩ := h
    refine z_if_eq X 27 dX13_putSixes_20 rfl i1 (fun c2 => ?_) (fun c2 => ?_)
    · have h := h.1 c2
      refine z_iconst X 0 dX13_putSixes_27 ?_
      exact z_sub [0, 1, 2, 3, 4, 5, 6] rfl (wkm_putSixes_28 X K hR hC16 _ _ _ _ _ _ _ _ _ _ h)
    · have h := h.2 c2
      refine z_iconst X 1 dX13_putSixes_23 ?_
      refine z_goto (tgt := 28) X dX13_putSixes_24 rfl ?_
      exact z_sub [0, 1, 2, 3, 4, 5, 6] rfl (wkm_putSixes_28 X K hR hC16 _ _ _ _ _ _ _ _ _ _ h)
set_option maxRecDepth 100000 in
theorem mt_putSixes (l : Launch) (D : va_G) (cr : List vw_C) (ds : Nat → ClassId) (ad : Nat → Nat) (a0 : Int) (a1 : Int) (a2 : Int) (σ : ZS) (post : ZS → Prop) (h : wm_putSixes a0 a1 a2 σ post) : ZMetV l (ΘM D cr ds ad) yX13_putSixes cX13_putSixes 7 2 21 0 0 [.ref (ad 0), .int (iz a0), .int (iz a1), .int (iz a2)] σ post := by
  refine ZMetV.of (by decide) (Nat.le_of_ble_eq_true rfl) (fun Γ X K hR => ?_)
  have X : ZX Γ cX13_putSixes RX13 2 21 := X
  refine z_sub [0, 1, 2, 3] (lv' := [(0, .ref (ad 0)), (1, .int (iz a0)), (2, .int (iz a1)), (3, .int (iz a2))]) rfl ?_
  refine z_aload_n X 0 dX13_putSixes_0 rfl ?_
  refine z_sipush X 240 dX13_putSixes_1 rfl ?_
  refine clm_put X K rfl h (Nat.le_of_ble_eq_true rfl) dX13_putSixes_4 (fun σ1 h => ?_)
  refine z_iconst X 0 dX13_putSixes_7 ?_
  refine z_istoreK X K (lv' := [(4, .int (iz 0)), (0, .ref (ad 0)), (1, .int (iz a0)), (2, .int (iz a1)), (3, .int (iz a2))]) dX13_putSixes_8 rfl rfl ?_
  refine z_iconst X 0 dX13_putSixes_10 ?_
  refine z_istoreK X K (lv' := [(5, .int (iz 0)), (4, .int (iz 0)), (0, .ref (ad 0)), (1, .int (iz a0)), (2, .int (iz a1)), (3, .int (iz a2))]) dX13_putSixes_11 rfl rfl ?_
  refine z_iconst X 0 dX13_putSixes_13 ?_
  refine z_istoreK X K (lv' := [(6, .int (iz 0)), (5, .int (iz 0)), (4, .int (iz 0)), (0, .ref (ad 0)), (1, .int (iz a0)), (2, .int (iz a1)), (3, .int (iz a2))]) dX13_putSixes_14 rfl rfl ?_
  obtain ⟨N, h⟩ := h
  exact z_sub [3, 4, 5, 6, 2, 1, 0] rfl (wkm_putSixes_16 X K hR N _ _ _ _ _ _ _ h)
set_option maxRecDepth 100000 in
theorem clm_putSixes {Γ : ZG} {cc : ByteArray} {fr lo nL pc : Nat} {lv : List (Nat × Value)} {st : List Value} {l : Launch} {D : va_G} {cr : List vw_C} {ds : Nat → ClassId} {ad : Nat → Nat} {a0 : Int} {a1 : Int} {a2 : Int} {σ : ZS} {post : ZS → Prop} (X : ZX Γ cc RX13 fr lo) (K : ZCap Γ l (ΘM D cr ds ad) nL 0 0) (hrm : zroom 3 47 fr lo = true) (h : wm_putSixes a0 a1 a2 σ post) (hst : (st.map fun v => v.category).sum ≤ 8) (d : decode cc pc = .ok (.invokevirtual 402, 3)) (kk : ∀ (σ' : ZS), post σ' → Z Γ 0 0 σ' [] (pc + 3) lv (st)) : Z Γ 0 0 σ [] pc lv (.int (iz a2) :: .int (iz a1) :: .int (iz a0) :: .ref (ad 0) :: st) :=
  z_callVV' (C := RX13) (q0 := 0) X K (mt_putSixes l D cr ds ad a0 a1 a2 σ post h) (Nat.le_of_ble_eq_true rfl) rfl rfl rfl (lw_V q1697 q1699 qs100 q127 q1700) ⟨rfl, by decide, by decide, rfl⟩ (zroom_of hrm) ⟨Nat.zero_le _, Nat.zero_le _⟩ hst d rfl kk
/- X13_runSixes -/
set_option maxRecDepth 100000 in
theorem wkm_runSixes_149 {Γ : ZG} {l : Launch} {D : va_G} {cr : List vw_C} {ds : Nat → ClassId} {ad : Nat → Nat} {post : Int → ZS → Prop} (X : ZX Γ cX13_runSixes RX13 5 87) (K : ZCap Γ l (ΘM D cr ds ad) 8 0 0) (hR : ZRetI Γ cX13_runSixes .int 0 0 post) (v3 : Int) (t0 : Int) (σ : ZS) (h : wm_runSixes_149 post v3 t0 σ) : Z Γ 0 0 σ [] 149 [(3, .int (iz v3))] [.int (iz t0), .ref (ad 0)] := by
  obtain ⟨b2, h⟩ := h
  refine pM_58 X K b2 dX13_runSixes_149 (fun σ1 eσ1 => ?_)
  have h := h σ1 eσ1
  refine z_iload_n X 0 dX13_runSixes_152 rfl ?_
  exact hR _ _ _ _ _ _ _ dX13_runSixes_153 rfl (Nat.le_refl 0) (Nat.le_refl 0) h
set_option maxRecDepth 100000 in
theorem wkm_runSixes_130 {Γ : ZG} {l : Launch} {D : va_G} {cr : List vw_C} {ds : Nat → ClassId} {ad : Nat → Nat} {post : Int → ZS → Prop} (X : ZX Γ cX13_runSixes RX13 5 87) (K : ZCap Γ l (ΘM D cr ds ad) 8 0 0) (hR : ZRetI Γ cX13_runSixes .int 0 0 post) (v1 : Int) (v3 : Int) (v7 : Int) (σ : ZS) (h : wm_runSixes_130 post v1 v3 v7 σ) : Z Γ 0 0 σ [] 130 [(0, .ref (ad 0)), (1, .int (iz v1)), (3, .int (iz v3)), (7, .int (iz v7))] [] := by
  refine z_aload_n X 0 dX13_runSixes_130 rfl ?_
  refine z_iload_n X 1 dX13_runSixes_131 rfl ?_
  refine z_iload_n X 2 dX13_runSixes_132 rfl ?_
  refine z_iload X 3 dX13_runSixes_133 rfl ?_
  refine clm_putSixes X K rfl h (Nat.le_of_ble_eq_true rfl) dX13_runSixes_135 (fun σ1 h => ?_)
  refine z_aload_n X 0 dX13_runSixes_138 rfl ?_
  refine z_iload X 3 dX13_runSixes_139 rfl ?_
  obtain ⟨i2, h⟩ := h
  refine z_if_ne X 148 dX13_runSixes_141 rfl i2 (fun c3 => ?_) (fun c3 => ?_)
  · have h := h.1 c3
    refine z_iconst X 0 dX13_runSixes_148 ?_
    exact z_sub [2] rfl (wkm_runSixes_149 X K hR _ _ _ h)
  · have h := h.2 c3
    refine z_iconst X 1 dX13_runSixes_144 ?_
    refine z_goto (tgt := 149) X dX13_runSixes_145 rfl ?_
    exact z_sub [2] rfl (wkm_runSixes_149 X K hR _ _ _ h)
set_option maxRecDepth 100000 in
theorem wkm_runSixes_102 {Γ : ZG} {l : Launch} {D : va_G} {cr : List vw_C} {ds : Nat → ClassId} {ad : Nat → Nat} {post : Int → ZS → Prop} (X : ZX Γ cX13_runSixes RX13 5 87) (K : ZCap Γ l (ΘM D cr ds ad) 8 0 0) (hR : ZRetI Γ cX13_runSixes .int 0 0 post) {C2 : Int × Int × Int × ZS → Prop} (hC2 : ∀ (v1 : Int) (v2 : Int) (v3 : Int) (σ : ZS), C2 (v1, v2, v3, σ) → Z Γ 0 0 σ [] 2 [(0, .ref (ad 0)), (1, .int (iz v1)), (2, .int (iz v2)), (3, .int (iz v3))] []) (v1 : Int) (v2 : Int) (v3 : Int) (v4 : Int) (t0 : Int) (σ : ZS) (h : wm_runSixes_102 C2 post v1 v2 v3 v4 t0 σ) : Z Γ 0 0 σ [] 102 [(0, .ref (ad 0)), (1, .int (iz v1)), (2, .int (iz v2)), (3, .int (iz v3)), (4, .int (iz v4))] [.int (iz t0)] := by
  refine z_istoreK X K (lv' := [(7, .int (iz t0)), (0, .ref (ad 0)), (1, .int (iz v1)), (2, .int (iz v2)), (3, .int (iz v3)), (4, .int (iz v4))]) dX13_runSixes_102 rfl rfl ?_
  refine z_iload X 0 dX13_runSixes_104 rfl ?_
  obtain ⟨i1, h⟩ := h
  refine z_if_ne X 130 dX13_runSixes_106 rfl i1 (fun c2 => ?_) (fun c2 => ?_)
  · have h := h.1 c2
    exact z_sub [1, 2, 4, 0] rfl (wkm_runSixes_130 X K hR _ _ _ _ h)
  · have h := h.2 c2
    refine z_iload_n X 4 dX13_runSixes_109 rfl ?_
    refine z_iconst X 4 dX13_runSixes_110 ?_
    obtain ⟨i3, h⟩ := h
    obtain ⟨g4, h⟩ := h
    refine z_irem X dX13_runSixes_111 ⟨i3, (by decide), g4, (by decide)⟩ ?_
    obtain ⟨i5, h⟩ := h
    refine z_if_ne X 154 dX13_runSixes_112 rfl i5 (fun c6 => ?_) (fun c6 => ?_)
    · have h := h.1 c6
      refine z_iincK X K 4 (lv' := [(3, .int (iz (v3 + 1))), (7, .int (iz t0)), (0, .ref (ad 0)), (1, .int (iz v1)), (2, .int (iz v2)), (4, .int (iz v4))]) dX13_runSixes_154 rfl rfl rfl ?_
      refine z_goto (tgt := 2) X dX13_runSixes_157 rfl ?_
      exact z_sub [2, 3, 4, 0] rfl (hC2 _ _ _ _ h)
    · have h := h.2 c6
      refine z_aload_n X 1 dX13_runSixes_115 rfl ?_
      refine z_iload_n X 2 dX13_runSixes_116 rfl ?_
      refine z_iload_n X 4 dX13_runSixes_117 rfl ?_
      refine z_iadd X dX13_runSixes_118 ?_
      refine z_iload_n X 3 dX13_runSixes_119 rfl ?_
      refine z_iload X 5 dX13_runSixes_120 rfl ?_
      refine z_isub X dX13_runSixes_122 ?_
      refine z_iconst X 2 dX13_runSixes_123 ?_
      refine clm_endsOpen X K rfl h (Nat.le_of_ble_eq_true rfl) dX13_runSixes_124 (fun r8 σ7 h => ?_)
      obtain ⟨b8, h⟩ := h
      have h := h b8
      refine z_if_eq X 154 dX13_runSixes_127 rfl (InR_b b8) (fun c10 => ?_) (fun c10 => ?_)
      · have h := h.1 c10
        refine z_iincK X K 4 (lv' := [(3, .int (iz (v3 + 1))), (7, .int (iz t0)), (0, .ref (ad 0)), (1, .int (iz v1)), (2, .int (iz v2)), (4, .int (iz v4))]) dX13_runSixes_154 rfl rfl rfl ?_
        refine z_goto (tgt := 2) X dX13_runSixes_157 rfl ?_
        exact z_sub [2, 3, 4, 0] rfl (hC2 _ _ _ _ h)
      · have h := h.2 c10
        exact z_sub [1, 2, 4, 0] rfl (wkm_runSixes_130 X K hR _ _ _ _ h)
set_option maxRecDepth 100000 in
theorem wkm_runSixes_101 {Γ : ZG} {l : Launch} {D : va_G} {cr : List vw_C} {ds : Nat → ClassId} {ad : Nat → Nat} {post : Int → ZS → Prop} (X : ZX Γ cX13_runSixes RX13 5 87) (K : ZCap Γ l (ΘM D cr ds ad) 8 0 0) (hR : ZRetI Γ cX13_runSixes .int 0 0 post) {C2 : Int × Int × Int × ZS → Prop} (hC2 : ∀ (v1 : Int) (v2 : Int) (v3 : Int) (σ : ZS), C2 (v1, v2, v3, σ) → Z Γ 0 0 σ [] 2 [(0, .ref (ad 0)), (1, .int (iz v1)), (2, .int (iz v2)), (3, .int (iz v3))] []) (v1 : Int) (v2 : Int) (v3 : Int) (v4 : Int) (σ : ZS) (h : wm_runSixes_101 C2 post v1 v2 v3 v4 σ) : Z Γ 0 0 σ [] 101 [(0, .ref (ad 0)), (1, .int (iz v1)), (2, .int (iz v2)), (3, .int (iz v3)), (4, .int (iz v4))] [] := by
  refine z_iconst X 0 dX13_runSixes_101 ?_
  exact z_sub [0, 1, 2, 3, 4] rfl (wkm_runSixes_102 X K hR hC2 _ _ _ _ _ _ h)
set_option maxRecDepth 100000 in
theorem wkm_runSixes_2 {Γ : ZG} {l : Launch} {D : va_G} {cr : List vw_C} {ds : Nat → ClassId} {ad : Nat → Nat} {post : Int → ZS → Prop} (X : ZX Γ cX13_runSixes RX13 5 87) (K : ZCap Γ l (ΘM D cr ds ad) 8 0 0) (hR : ZRetI Γ cX13_runSixes .int 0 0 post) : ∀ (N : Nat) (v1 : Int) (v2 : Int) (v3 : Int) (σ : ZS), zfix (wbm_runSixes_2 post) N (v1, v2, v3, σ) → Z Γ 0 0 σ [] 2 [(0, .ref (ad 0)), (1, .int (iz v1)), (2, .int (iz v2)), (3, .int (iz v3))] [] := by
  intro N
  induction N with
  | zero => intro v1 v2 v3 σ h; exact False.elim h
  | succ N ih =>
    intro v1 v2 v3 σ h
    have h : wbm_runSixes_2 post (zfix (wbm_runSixes_2 post) N) (v1, v2, v3, σ) := h
    have hC2 := ih
    clear ih
    generalize zfix (wbm_runSixes_2 post) N = C2 at h hC2
    dsimp only [wbm_runSixes_2] at h
    refine z_iload_n X 3 dX13_runSixes_2 rfl ?_
    refine z_aload_n X 0 dX13_runSixes_3 rfl ?_
    refine gM_11 X K dX13_runSixes_4 ?_
    refine z_iload_n X 1 dX13_runSixes_7 rfl ?_
    refine z_isub X dX13_runSixes_8 ?_
    obtain ⟨i1, h⟩ := h
    obtain ⟨i2, h⟩ := h
    refine z_icmp_gt X 160 dX13_runSixes_9 rfl i1 i2 (fun c3 => ?_) (fun c3 => ?_)
    · have h := h.1 c3
      refine z_iconst X 0 dX13_runSixes_160 ?_
      exact hR _ _ _ _ _ _ _ dX13_runSixes_161 rfl (Nat.le_refl 0) (Nat.le_refl 0) h
    · have h := h.2 c3
      refine z_aload_n X 0 dX13_runSixes_12 rfl ?_
      refine gM_9 X K dX13_runSixes_13 ?_
      refine z_iload_n X 1 dX13_runSixes_16 rfl ?_
      refine z_iload_n X 3 dX13_runSixes_17 rfl ?_
      refine z_iadd X dX13_runSixes_18 ?_
      refine z_iconst X 1 dX13_runSixes_19 ?_
      refine z_isub X dX13_runSixes_20 ?_
      obtain ⟨x4, h⟩ := h
      refine aM_9 X K dX13_runSixes_21 x4 ?_
      refine clm_isSix X K rfl h (Nat.le_of_ble_eq_true rfl) dX13_runSixes_22 (fun r6 σ5 h => ?_)
      obtain ⟨b6, h⟩ := h
      have h := h b6
      refine z_if_eq X 160 dX13_runSixes_25 rfl (InR_b b6) (fun c8 => ?_) (fun c8 => ?_)
      · have h := h.1 c8
        refine z_iconst X 0 dX13_runSixes_160 ?_
        exact hR _ _ _ _ _ _ _ dX13_runSixes_161 rfl (Nat.le_refl 0) (Nat.le_refl 0) h
      · have h := h.2 c8
        refine z_iconst X 1 dX13_runSixes_28 ?_
        refine z_iconst X 3 dX13_runSixes_29 ?_
        refine z_iload_n X 3 dX13_runSixes_30 rfl ?_
        refine z_iconst X 4 dX13_runSixes_31 ?_
        obtain ⟨g9, h⟩ := h
        refine z_idiv X dX13_runSixes_32 ⟨i1, (by decide), g9, (by decide)⟩ ?_
        refine z_imul X dX13_runSixes_33 ?_
        refine z_iadd X dX13_runSixes_34 ?_
        refine z_topi (fun v4_10 ev4_10 => ?_)
        have h := h v4_10 ev4_10
        refine z_istoreK X K (lv' := [(4, .int (iz v4_10)), (0, .ref (ad 0)), (1, .int (iz v1)), (2, .int (iz v2)), (3, .int (iz v3))]) dX13_runSixes_35 rfl rfl ?_
        refine z_iload X 0 dX13_runSixes_37 rfl ?_
        refine z_iload_n X 3 dX13_runSixes_39 rfl ?_
        obtain ⟨i11, h⟩ := h
        obtain ⟨i12, h⟩ := h
        refine z_icmp_le X 45 dX13_runSixes_40 rfl i11 i12 (fun c13 => ?_) (fun c13 => ?_)
        · have h := h.1 c13
          refine z_iload_n X 4 dX13_runSixes_45 rfl ?_
          refine z_iconst X 4 dX13_runSixes_46 ?_
          refine z_irem X dX13_runSixes_47 ⟨i1, (by decide), g9, (by decide)⟩ ?_
          refine clm_lastWords X K rfl h (Nat.le_of_ble_eq_true rfl) dX13_runSixes_48 (fun r15 σ14 h => ?_)
          refine z_istoreK X K (lv' := [(5, .int (iz r15)), (4, .int (iz v4_10)), (0, .ref (ad 0)), (1, .int (iz v1)), (2, .int (iz v2)), (3, .int (iz v3))]) dX13_runSixes_51 rfl rfl ?_
          refine z_iload_n X 4 dX13_runSixes_53 rfl ?_
          refine z_iload X 1 dX13_runSixes_54 rfl ?_
          refine z_isub X dX13_runSixes_56 ?_
          refine z_iload X 0 dX13_runSixes_57 rfl ?_
          refine z_isub X dX13_runSixes_59 ?_
          refine z_topi (fun v6_16 ev6_16 => ?_)
          have h := h v6_16 ev6_16
          refine z_istoreK X K (lv' := [(6, .int (iz v6_16)), (5, .int (iz r15)), (4, .int (iz v4_10)), (0, .ref (ad 0)), (1, .int (iz v1)), (2, .int (iz v2)), (3, .int (iz v3))]) dX13_runSixes_60 rfl rfl ?_
          refine z_iload X 0 dX13_runSixes_62 rfl ?_
          obtain ⟨i17, h⟩ := h
          refine z_if_lt X 101 dX13_runSixes_64 rfl i17 (fun c18 => ?_) (fun c18 => ?_)
          · have h := h.1 c18
            exact z_sub [3, 4, 5, 6, 2] rfl (wkm_runSixes_101 X K hR hC2 _ _ _ _ _ h)
          · have h := h.2 c18
            refine z_iload X 0 dX13_runSixes_67 rfl ?_
            refine z_iconst X 3 dX13_runSixes_69 ?_
            refine z_iload X 1 dX13_runSixes_70 rfl ?_
            refine z_isub X dX13_runSixes_72 ?_
            refine z_aload_n X 3 dX13_runSixes_73 rfl ?_
            refine gM_47 X K dX13_runSixes_74 ?_
            refine z_isub X dX13_runSixes_77 ?_
            obtain ⟨i19, h⟩ := h
            refine z_icmp_lt X 101 dX13_runSixes_78 rfl i17 i19 (fun c20 => ?_) (fun c20 => ?_)
            · have h := h.1 c20
              exact z_sub [3, 4, 5, 6, 2] rfl (wkm_runSixes_101 X K hR hC2 _ _ _ _ _ h)
            · have h := h.2 c20
              refine z_aload_n X 3 dX13_runSixes_81 rfl ?_
              refine z_aload_n X 3 dX13_runSixes_82 rfl ?_
              refine gM_49 X K dX13_runSixes_83 ?_
              refine z_iload_n X 4 dX13_runSixes_86 rfl ?_
              refine z_iload_n X 6 dX13_runSixes_87 rfl ?_
              refine z_iadd X dX13_runSixes_88 ?_
              refine z_iload X 0 dX13_runSixes_89 rfl ?_
              refine clm_has X K rfl h (Nat.le_of_ble_eq_true rfl) dX13_runSixes_91 (fun r22 σ21 h => ?_)
              obtain ⟨b22, h⟩ := h
              have h := h b22
              refine z_if_eq X 101 dX13_runSixes_94 rfl (InR_b b22) (fun c24 => ?_) (fun c24 => ?_)
              · have h := h.1 c24
                exact z_sub [3, 4, 5, 6, 2] rfl (wkm_runSixes_101 X K hR hC2 _ _ _ _ _ h)
              · have h := h.2 c24
                refine z_iconst X 1 dX13_runSixes_97 ?_
                refine z_goto (tgt := 102) X dX13_runSixes_98 rfl ?_
                exact z_sub [3, 4, 5, 6, 2] rfl (wkm_runSixes_102 X K hR hC2 _ _ _ _ _ _ h)
        · have h := h.2 c13
          refine z_iconst X 0 dX13_runSixes_43 ?_
          exact hR _ _ _ _ _ _ _ dX13_runSixes_44 rfl (Nat.le_refl 0) (Nat.le_refl 0) h
set_option maxRecDepth 100000 in
theorem mt_runSixes (l : Launch) (D : va_G) (cr : List vw_C) (ds : Nat → ClassId) (ad : Nat → Nat) (a0 : Int) (a1 : Int) (σ : ZS) (post : Int → ZS → Prop) (h : wm_runSixes a0 a1 σ post) : ZMetI l (ΘM D cr ds ad) yX13_runSixes cX13_runSixes 8 .int 5 87 0 0 [.ref (ad 0), .int (iz a0), .int (iz a1)] σ post := by
  refine ZMetI.of (by decide) (Nat.le_of_ble_eq_true rfl) (fun Γ X K hR => ?_)
  have X : ZX Γ cX13_runSixes RX13 5 87 := X
  refine z_sub [0, 1, 2] (lv' := [(0, .ref (ad 0)), (1, .int (iz a0)), (2, .int (iz a1))]) rfl ?_
  refine z_iconst X 1 dX13_runSixes_0 ?_
  refine z_istore_nK X K (lv' := [(3, .int (iz 1)), (0, .ref (ad 0)), (1, .int (iz a0)), (2, .int (iz a1))]) dX13_runSixes_1 rfl rfl ?_
  obtain ⟨N, h⟩ := h
  exact z_sub [1, 2, 3, 0] rfl (wkm_runSixes_2 X K hR N _ _ _ _ h)
set_option maxRecDepth 100000 in
theorem clm_runSixes {Γ : ZG} {cc : ByteArray} {fr lo nL pc : Nat} {lv : List (Nat × Value)} {st : List Value} {l : Launch} {D : va_G} {cr : List vw_C} {ds : Nat → ClassId} {ad : Nat → Nat} {a0 : Int} {a1 : Int} {σ : ZS} {post : Int → ZS → Prop} (X : ZX Γ cc RX13 fr lo) (K : ZCap Γ l (ΘM D cr ds ad) nL 0 0) (hrm : zroom 6 114 fr lo = true) (h : wm_runSixes a0 a1 σ post) (hst : (st.map fun v => v.category).sum ≤ 8) (d : decode cc pc = .ok (.invokevirtual 390, 3)) (kk : ∀ (r : Int) (σ' : ZS), post r σ' → Z Γ 0 0 σ' [] (pc + 3) lv (.int (iz r) :: st)) : Z Γ 0 0 σ [] pc lv (.int (iz a1) :: .int (iz a0) :: .ref (ad 0) :: st) :=
  z_callVI' (C := RX13) (q0 := 0) X K (mt_runSixes l D cr ds ad a0 a1 σ post h) (Nat.le_of_ble_eq_true rfl) rfl rfl rfl (lw_V q1689 q1691 qs98 q127 q1692) ⟨rfl, by decide, by decide, rfl⟩ (zroom_of hrm) ⟨Nat.zero_le _, Nat.zero_le _⟩ hst d rfl kk
/- X13_spellSmall -/
set_option maxRecDepth 100000 in
theorem wkm_spellSmall_316 {Γ : ZG} {l : Launch} {D : va_G} {cr : List vw_C} {ds : Nat → ClassId} {ad : Nat → Nat} {post : Int → ZS → Prop} (X : ZX Γ cX13_spellSmall RX13 2 20) (K : ZCap Γ l (ΘM D cr ds ad) 7 0 0) (hR : ZRetI Γ cX13_spellSmall .int 0 0 post) (v3 : Int) (t0 : Int) (t1 : Int) (σ : ZS) (h : wm_spellSmall_316 post v3 t0 t1 σ) : Z Γ 0 0 σ [] 316 [(3, .int (iz v3))] [.int (iz t0), .int (iz t1), .ref (ad 27)] := by
  obtain ⟨x1, h⟩ := h
  refine sM_27 X K dX13_spellSmall_316 x1 (fun σ2 eσ2 => ?_)
  have h := h σ2 eσ2
  refine z_iload_n X 0 dX13_spellSmall_317 rfl ?_
  refine z_iconst X 2 dX13_spellSmall_318 ?_
  refine z_iadd X dX13_spellSmall_319 ?_
  exact hR _ _ _ _ _ _ _ dX13_spellSmall_320 rfl (Nat.le_refl 0) (Nat.le_refl 0) h
set_option maxRecDepth 100000 in
theorem wkm_spellSmall_289 {Γ : ZG} {l : Launch} {D : va_G} {cr : List vw_C} {ds : Nat → ClassId} {ad : Nat → Nat} {post : Int → ZS → Prop} (X : ZX Γ cX13_spellSmall RX13 2 20) (K : ZCap Γ l (ΘM D cr ds ad) 7 0 0) (hR : ZRetI Γ cX13_spellSmall .int 0 0 post) (v2 : Int) (v3 : Int) (t0 : Int) (σ : ZS) (h : wm_spellSmall_289 post v2 v3 t0 σ) : Z Γ 0 0 σ [] 289 [(2, .int (iz v2)), (3, .int (iz v3))] [.int (iz t0), .ref (ad 27)] := by
  refine z_iload_n X 0 dX13_spellSmall_289 rfl ?_
  refine z_bipush X 96 dX13_spellSmall_290 rfl ?_
  refine z_isub X dX13_spellSmall_292 ?_
  refine z_goto (tgt := 316) X dX13_spellSmall_293 rfl ?_
  exact z_sub [1] rfl (wkm_spellSmall_316 X K hR _ _ _ _ h)
set_option maxRecDepth 100000 in
theorem wkm_spellSmall_216 {Γ : ZG} {l : Launch} {D : va_G} {cr : List vw_C} {ds : Nat → ClassId} {ad : Nat → Nat} {post : Int → ZS → Prop} (X : ZX Γ cX13_spellSmall RX13 2 20) (K : ZCap Γ l (ΘM D cr ds ad) 7 0 0) (hR : ZRetI Γ cX13_spellSmall .int 0 0 post) (v1 : Int) (v2 : Int) (v3 : Int) (v6 : Int) (t0 : Int) (t1 : Int) (σ : ZS) (h : wm_spellSmall_216 post v1 v2 v3 v6 t0 t1 σ) : Z Γ 0 0 σ [] 216 [(0, .ref (ad 0)), (1, .int (iz v1)), (2, .int (iz v2)), (3, .int (iz v3)), (6, .int (iz v6))] [.int (iz t0), .int (iz t1), .ref (ad 27)] := by
  obtain ⟨x1, h⟩ := h
  refine sM_27 X K dX13_spellSmall_216 x1 (fun σ2 eσ2 => ?_)
  have h := h σ2 eσ2
  refine z_aload_n X 0 dX13_spellSmall_217 rfl ?_
  refine gM_50 X K dX13_spellSmall_218 ?_
  refine z_iload_n X 3 dX13_spellSmall_221 rfl ?_
  refine z_iconst X 1 dX13_spellSmall_222 ?_
  refine z_iadd X dX13_spellSmall_223 ?_
  refine z_iload_n X 2 dX13_spellSmall_224 rfl ?_
  refine z_bipush X 32 dX13_spellSmall_225 rfl ?_
  obtain ⟨i3, h⟩ := h
  refine z_icmp_ge X 234 dX13_spellSmall_227 rfl i3 (by decide) (fun c4 => ?_) (fun c4 => ?_)
  · have h := h.1 c4
    refine z_iload X 4 dX13_spellSmall_234 rfl ?_
    obtain ⟨i5, h⟩ := h
    refine z_if_eq X 278 dX13_spellSmall_236 rfl i5 (fun c6 => ?_) (fun c6 => ?_)
    · have h := h.1 c6
      refine z_iload_n X 1 dX13_spellSmall_278 rfl ?_
      refine z_iconst X 4 dX13_spellSmall_279 ?_
      obtain ⟨i7, h⟩ := h
      refine z_icmp_eq X 289 dX13_spellSmall_280 rfl i7 (by decide) (fun c8 => ?_) (fun c8 => ?_)
      · have h := h.1 c8
        exact z_sub [2, 3] rfl (wkm_spellSmall_289 X K hR _ _ _ _ h)
      · have h := h.2 c8
        refine z_iload_n X 2 dX13_spellSmall_283 rfl ?_
        refine z_bipush X 96 dX13_spellSmall_284 rfl ?_
        refine z_icmp_ne X 296 dX13_spellSmall_286 rfl i3 (by decide) (fun c9 => ?_) (fun c9 => ?_)
        · have h := h.1 c9
          refine z_iload_n X 2 dX13_spellSmall_296 rfl ?_
          refine z_bipush X 91 dX13_spellSmall_297 rfl ?_
          refine z_icmp_ge X 309 dX13_spellSmall_299 rfl i3 (by decide) (fun c10 => ?_) (fun c10 => ?_)
          · have h := h.1 c10
            refine z_iload_n X 2 dX13_spellSmall_309 rfl ?_
            refine z_bipush X 123 dX13_spellSmall_310 rfl ?_
            refine z_isub X dX13_spellSmall_312 ?_
            refine z_bipush X 27 dX13_spellSmall_313 rfl ?_
            refine z_iadd X dX13_spellSmall_315 ?_
            exact z_sub [3] rfl (wkm_spellSmall_316 X K hR _ _ _ _ h)
          · have h := h.2 c10
            refine z_iload_n X 2 dX13_spellSmall_302 rfl ?_
            refine z_bipush X 64 dX13_spellSmall_303 rfl ?_
            refine z_isub X dX13_spellSmall_305 ?_
            refine z_goto (tgt := 316) X dX13_spellSmall_306 rfl ?_
            exact z_sub [3] rfl (wkm_spellSmall_316 X K hR _ _ _ _ h)
        · have h := h.2 c9
          exact z_sub [2, 3] rfl (wkm_spellSmall_289 X K hR _ _ _ _ h)
    · have h := h.2 c6
      refine z_iload_n X 2 dX13_spellSmall_239 rfl ?_
      refine z_bipush X 48 dX13_spellSmall_240 rfl ?_
      refine z_icmp_ge X 252 dX13_spellSmall_242 rfl i3 (by decide) (fun c11 => ?_) (fun c11 => ?_)
      · have h := h.1 c11
        refine z_iload_n X 2 dX13_spellSmall_252 rfl ?_
        refine z_bipush X 65 dX13_spellSmall_253 rfl ?_
        refine z_icmp_ge X 268 dX13_spellSmall_255 rfl i3 (by decide) (fun c12 => ?_) (fun c12 => ?_)
        · have h := h.1 c12
          refine z_iload_n X 2 dX13_spellSmall_268 rfl ?_
          refine z_bipush X 91 dX13_spellSmall_269 rfl ?_
          refine z_isub X dX13_spellSmall_271 ?_
          refine z_bipush X 22 dX13_spellSmall_272 rfl ?_
          refine z_iadd X dX13_spellSmall_274 ?_
          refine z_goto (tgt := 316) X dX13_spellSmall_275 rfl ?_
          exact z_sub [3] rfl (wkm_spellSmall_316 X K hR _ _ _ _ h)
        · have h := h.2 c12
          refine z_iload_n X 2 dX13_spellSmall_258 rfl ?_
          refine z_bipush X 58 dX13_spellSmall_259 rfl ?_
          refine z_isub X dX13_spellSmall_261 ?_
          refine z_bipush X 15 dX13_spellSmall_262 rfl ?_
          refine z_iadd X dX13_spellSmall_264 ?_
          refine z_goto (tgt := 316) X dX13_spellSmall_265 rfl ?_
          exact z_sub [3] rfl (wkm_spellSmall_316 X K hR _ _ _ _ h)
      · have h := h.2 c11
        refine z_iload_n X 2 dX13_spellSmall_245 rfl ?_
        refine z_bipush X 33 dX13_spellSmall_246 rfl ?_
        refine z_isub X dX13_spellSmall_248 ?_
        refine z_goto (tgt := 316) X dX13_spellSmall_249 rfl ?_
        exact z_sub [3] rfl (wkm_spellSmall_316 X K hR _ _ _ _ h)
  · have h := h.2 c4
    refine z_iload_n X 2 dX13_spellSmall_230 rfl ?_
    refine z_goto (tgt := 316) X dX13_spellSmall_231 rfl ?_
    exact z_sub [3] rfl (wkm_spellSmall_316 X K hR _ _ _ _ h)
set_option maxRecDepth 100000 in
theorem wkm_spellSmall_189 {Γ : ZG} {l : Launch} {D : va_G} {cr : List vw_C} {ds : Nat → ClassId} {ad : Nat → Nat} {post : Int → ZS → Prop} (X : ZX Γ cX13_spellSmall RX13 2 20) (K : ZCap Γ l (ΘM D cr ds ad) 7 0 0) (hR : ZRetI Γ cX13_spellSmall .int 0 0 post) (v1 : Int) (v2 : Int) (v3 : Int) (t0 : Int) (σ : ZS) (h : wm_spellSmall_189 post v1 v2 v3 t0 σ) : Z Γ 0 0 σ [] 189 [(0, .ref (ad 0)), (1, .int (iz v1)), (2, .int (iz v2)), (3, .int (iz v3))] [.int (iz t0)] := by
  refine z_istoreK X K (lv' := [(6, .int (iz t0)), (0, .ref (ad 0)), (1, .int (iz v1)), (2, .int (iz v2)), (3, .int (iz v3))]) dX13_spellSmall_189 rfl rfl ?_
  refine z_aload_n X 1 dX13_spellSmall_191 rfl ?_
  refine gM_50 X K dX13_spellSmall_192 ?_
  refine z_iload_n X 4 dX13_spellSmall_195 rfl ?_
  refine z_iload_n X 3 dX13_spellSmall_196 rfl ?_
  refine z_bipush X 32 dX13_spellSmall_197 rfl ?_
  obtain ⟨i1, h⟩ := h
  refine z_icmp_ge X 206 dX13_spellSmall_199 rfl i1 (by decide) (fun c2 => ?_) (fun c2 => ?_)
  · have h := h.1 c2
    refine z_iload X 0 dX13_spellSmall_206 rfl ?_
    obtain ⟨i3, h⟩ := h
    refine z_if_eq X 215 dX13_spellSmall_208 rfl i3 (fun c4 => ?_) (fun c4 => ?_)
    · have h := h.1 c4
      refine z_iconst X 2 dX13_spellSmall_215 ?_
      exact z_sub [1, 2, 3, 4, 0] rfl (wkm_spellSmall_216 X K hR _ _ _ _ _ _ _ h)
    · have h := h.2 c4
      refine z_iconst X 1 dX13_spellSmall_211 ?_
      refine z_goto (tgt := 216) X dX13_spellSmall_212 rfl ?_
      exact z_sub [1, 2, 3, 4, 0] rfl (wkm_spellSmall_216 X K hR _ _ _ _ _ _ _ h)
  · have h := h.2 c2
    refine z_iconst X 0 dX13_spellSmall_202 ?_
    refine z_goto (tgt := 216) X dX13_spellSmall_203 rfl ?_
    exact z_sub [1, 2, 3, 4, 0] rfl (wkm_spellSmall_216 X K hR _ _ _ _ _ _ _ h)
set_option maxRecDepth 100000 in
theorem wkm_spellSmall_188 {Γ : ZG} {l : Launch} {D : va_G} {cr : List vw_C} {ds : Nat → ClassId} {ad : Nat → Nat} {post : Int → ZS → Prop} (X : ZX Γ cX13_spellSmall RX13 2 20) (K : ZCap Γ l (ΘM D cr ds ad) 7 0 0) (hR : ZRetI Γ cX13_spellSmall .int 0 0 post) (v1 : Int) (v2 : Int) (v3 : Int) (σ : ZS) (h : wm_spellSmall_188 post v1 v2 v3 σ) : Z Γ 0 0 σ [] 188 [(0, .ref (ad 0)), (1, .int (iz v1)), (2, .int (iz v2)), (3, .int (iz v3))] [] := by
  refine z_iconst X 0 dX13_spellSmall_188 ?_
  exact z_sub [0, 1, 2, 3] rfl (wkm_spellSmall_189 X K hR _ _ _ _ _ h)
set_option maxRecDepth 100000 in
theorem wkm_spellSmall_172 {Γ : ZG} {l : Launch} {D : va_G} {cr : List vw_C} {ds : Nat → ClassId} {ad : Nat → Nat} {post : Int → ZS → Prop} (X : ZX Γ cX13_spellSmall RX13 2 20) (K : ZCap Γ l (ΘM D cr ds ad) 7 0 0) (hR : ZRetI Γ cX13_spellSmall .int 0 0 post) (v1 : Int) (v2 : Int) (v3 : Int) (σ : ZS) (h : wm_spellSmall_172 post v1 v2 v3 σ) : Z Γ 0 0 σ [] 172 [(0, .ref (ad 0)), (1, .int (iz v1)), (2, .int (iz v2)), (3, .int (iz v3))] [] := by
  refine z_iload_n X 2 dX13_spellSmall_172 rfl ?_
  refine z_bipush X 91 dX13_spellSmall_173 rfl ?_
  obtain ⟨i1, h⟩ := h
  refine z_icmp_lt X 188 dX13_spellSmall_175 rfl i1 (by decide) (fun c2 => ?_) (fun c2 => ?_)
  · have h := h.1 c2
    exact z_sub [0, 1, 2, 3] rfl (wkm_spellSmall_188 X K hR _ _ _ _ h)
  · have h := h.2 c2
    refine z_iload_n X 2 dX13_spellSmall_178 rfl ?_
    refine z_bipush X 95 dX13_spellSmall_179 rfl ?_
    refine z_icmp_gt X 188 dX13_spellSmall_181 rfl i1 (by decide) (fun c3 => ?_) (fun c3 => ?_)
    · have h := h.1 c3
      exact z_sub [0, 1, 2, 3] rfl (wkm_spellSmall_188 X K hR _ _ _ _ h)
    · have h := h.2 c3
      refine z_iconst X 1 dX13_spellSmall_184 ?_
      refine z_goto (tgt := 189) X dX13_spellSmall_185 rfl ?_
      exact z_sub [0, 1, 2, 3] rfl (wkm_spellSmall_189 X K hR _ _ _ _ _ h)
set_option maxRecDepth 100000 in
theorem wkm_spellSmall_160 {Γ : ZG} {l : Launch} {D : va_G} {cr : List vw_C} {ds : Nat → ClassId} {ad : Nat → Nat} {post : Int → ZS → Prop} (X : ZX Γ cX13_spellSmall RX13 2 20) (K : ZCap Γ l (ΘM D cr ds ad) 7 0 0) (hR : ZRetI Γ cX13_spellSmall .int 0 0 post) (v1 : Int) (v2 : Int) (v3 : Int) (σ : ZS) (h : wm_spellSmall_160 post v1 v2 v3 σ) : Z Γ 0 0 σ [] 160 [(0, .ref (ad 0)), (1, .int (iz v1)), (2, .int (iz v2)), (3, .int (iz v3))] [] := by
  refine z_iload_n X 2 dX13_spellSmall_160 rfl ?_
  refine z_bipush X 58 dX13_spellSmall_161 rfl ?_
  obtain ⟨i1, h⟩ := h
  refine z_icmp_lt X 172 dX13_spellSmall_163 rfl i1 (by decide) (fun c2 => ?_) (fun c2 => ?_)
  · have h := h.1 c2
    exact z_sub [0, 1, 2, 3] rfl (wkm_spellSmall_172 X K hR _ _ _ _ h)
  · have h := h.2 c2
    refine z_iload_n X 2 dX13_spellSmall_166 rfl ?_
    refine z_bipush X 64 dX13_spellSmall_167 rfl ?_
    refine z_icmp_le X 184 dX13_spellSmall_169 rfl i1 (by decide) (fun c3 => ?_) (fun c3 => ?_)
    · have h := h.1 c3
      refine z_iconst X 1 dX13_spellSmall_184 ?_
      refine z_goto (tgt := 189) X dX13_spellSmall_185 rfl ?_
      exact z_sub [0, 1, 2, 3] rfl (wkm_spellSmall_189 X K hR _ _ _ _ _ h)
    · have h := h.2 c3
      exact z_sub [0, 1, 2, 3] rfl (wkm_spellSmall_172 X K hR _ _ _ _ h)
set_option maxRecDepth 100000 in
theorem wkm_spellSmall_110 {Γ : ZG} {l : Launch} {D : va_G} {cr : List vw_C} {ds : Nat → ClassId} {ad : Nat → Nat} {post : Int → ZS → Prop} (X : ZX Γ cX13_spellSmall RX13 2 20) (K : ZCap Γ l (ΘM D cr ds ad) 7 0 0) (hR : ZRetI Γ cX13_spellSmall .int 0 0 post) (v3 : Int) (t0 : Int) (σ : ZS) (h : wm_spellSmall_110 post v3 t0 σ) : Z Γ 0 0 σ [] 110 [(0, .ref (ad 0)), (3, .int (iz v3))] [.int (iz t0)] := by
  refine z_istoreK X K (lv' := [(4, .int (iz t0)), (0, .ref (ad 0)), (3, .int (iz v3))]) dX13_spellSmall_110 rfl rfl ?_
  refine z_aload_n X 1 dX13_spellSmall_112 rfl ?_
  refine gM_50 X K dX13_spellSmall_113 ?_
  refine z_iload_n X 2 dX13_spellSmall_116 rfl ?_
  refine z_iload X 0 dX13_spellSmall_117 rfl ?_
  obtain ⟨x1, h⟩ := h
  refine sM_27 X K dX13_spellSmall_119 x1 (fun σ2 eσ2 => ?_)
  have h := h σ2 eσ2
  refine z_iload X 0 dX13_spellSmall_120 rfl ?_
  obtain ⟨i3, h⟩ := h
  refine z_if_ge X 129 dX13_spellSmall_122 rfl i3 (fun c4 => ?_) (fun c4 => ?_)
  · have h := h.1 c4
    refine z_iconst X 1 dX13_spellSmall_129 ?_
    exact hR _ _ _ _ _ _ _ dX13_spellSmall_130 rfl (Nat.le_refl 0) (Nat.le_refl 0) h
  · have h := h.2 c4
    refine z_iconst X 0 dX13_spellSmall_125 ?_
    refine z_goto (tgt := 130) X dX13_spellSmall_126 rfl ?_
    exact hR _ _ _ _ _ _ _ dX13_spellSmall_130 rfl (Nat.le_refl 0) (Nat.le_refl 0) h
set_option maxRecDepth 100000 in
theorem wkm_spellSmall_70 {Γ : ZG} {l : Launch} {D : va_G} {cr : List vw_C} {ds : Nat → ClassId} {ad : Nat → Nat} {post : Int → ZS → Prop} (X : ZX Γ cX13_spellSmall RX13 2 20) (K : ZCap Γ l (ΘM D cr ds ad) 7 0 0) (hR : ZRetI Γ cX13_spellSmall .int 0 0 post) (v1 : Int) (v2 : Int) (v3 : Int) (t0 : Int) (σ : ZS) (h : wm_spellSmall_70 post v1 v2 v3 t0 σ) : Z Γ 0 0 σ [] 70 [(0, .ref (ad 0)), (1, .int (iz v1)), (2, .int (iz v2)), (3, .int (iz v3))] [.int (iz t0)] := by
  refine z_istoreK X K (lv' := [(4, .int (iz t0)), (0, .ref (ad 0)), (1, .int (iz v1)), (2, .int (iz v2)), (3, .int (iz v3))]) dX13_spellSmall_70 rfl rfl ?_
  refine z_iload_n X 2 dX13_spellSmall_72 rfl ?_
  refine z_bipush X 6 dX13_spellSmall_73 rfl ?_
  obtain ⟨i1, h⟩ := h
  refine z_icmp_ne X 131 dX13_spellSmall_75 rfl i1 (by decide) (fun c2 => ?_) (fun c2 => ?_)
  · have h := h.1 c2
    refine z_iload X 0 dX13_spellSmall_131 rfl ?_
    obtain ⟨i3, h⟩ := h
    refine z_if_lt X 148 dX13_spellSmall_133 rfl i3 (fun c4 => ?_) (fun c4 => ?_)
    · have h := h.1 c4
      refine z_iload_n X 3 dX13_spellSmall_148 rfl ?_
      refine z_bipush X 33 dX13_spellSmall_149 rfl ?_
      obtain ⟨i5, h⟩ := h
      refine z_icmp_lt X 160 dX13_spellSmall_151 rfl i5 (by decide) (fun c6 => ?_) (fun c6 => ?_)
      · have h := h.1 c6
        exact z_sub [1, 2, 3, 4] rfl (wkm_spellSmall_160 X K hR _ _ _ _ h)
      · have h := h.2 c6
        refine z_iload_n X 3 dX13_spellSmall_154 rfl ?_
        refine z_bipush X 47 dX13_spellSmall_155 rfl ?_
        refine z_icmp_le X 184 dX13_spellSmall_157 rfl i5 (by decide) (fun c7 => ?_) (fun c7 => ?_)
        · have h := h.1 c7
          refine z_iconst X 1 dX13_spellSmall_184 ?_
          refine z_goto (tgt := 189) X dX13_spellSmall_185 rfl ?_
          exact z_sub [1, 2, 3, 4] rfl (wkm_spellSmall_189 X K hR _ _ _ _ _ h)
        · have h := h.2 c7
          exact z_sub [1, 2, 3, 4] rfl (wkm_spellSmall_160 X K hR _ _ _ _ h)
    · have h := h.2 c4
      refine z_aload_n X 1 dX13_spellSmall_136 rfl ?_
      refine gM_50 X K dX13_spellSmall_137 ?_
      refine z_iload_n X 4 dX13_spellSmall_140 rfl ?_
      refine z_iload X 0 dX13_spellSmall_141 rfl ?_
      obtain ⟨x8, h⟩ := h
      refine sM_27 X K dX13_spellSmall_143 x8 (fun σ9 eσ9 => ?_)
      have h := h σ9 eσ9
      refine z_iload_n X 4 dX13_spellSmall_144 rfl ?_
      refine z_iconst X 1 dX13_spellSmall_145 ?_
      refine z_iadd X dX13_spellSmall_146 ?_
      exact hR _ _ _ _ _ _ _ dX13_spellSmall_147 rfl (Nat.le_refl 0) (Nat.le_refl 0) h
  · have h := h.2 c2
    refine z_iload_n X 3 dX13_spellSmall_78 rfl ?_
    refine z_bipush X 13 dX13_spellSmall_79 rfl ?_
    obtain ⟨i10, h⟩ := h
    refine z_icmp_ne X 88 dX13_spellSmall_81 rfl i10 (by decide) (fun c11 => ?_) (fun c11 => ?_)
    · have h := h.1 c11
      refine z_iload_n X 3 dX13_spellSmall_88 rfl ?_
      refine z_bipush X 42 dX13_spellSmall_89 rfl ?_
      refine z_icmp_ne X 98 dX13_spellSmall_91 rfl i10 (by decide) (fun c12 => ?_) (fun c12 => ?_)
      · have h := h.1 c12
        refine z_iload_n X 3 dX13_spellSmall_98 rfl ?_
        refine z_bipush X 62 dX13_spellSmall_99 rfl ?_
        refine z_icmp_ne X 108 dX13_spellSmall_101 rfl i10 (by decide) (fun c13 => ?_) (fun c13 => ?_)
        · have h := h.1 c13
          refine z_iload X 0 dX13_spellSmall_108 rfl ?_
          exact z_sub [1, 4] rfl (wkm_spellSmall_110 X K hR _ _ _ h)
        · have h := h.2 c13
          refine z_iconst X 2 dX13_spellSmall_104 ?_
          refine z_goto (tgt := 110) X dX13_spellSmall_105 rfl ?_
          exact z_sub [1, 4] rfl (wkm_spellSmall_110 X K hR _ _ _ h)
      · have h := h.2 c12
        refine z_iconst X 1 dX13_spellSmall_94 ?_
        refine z_goto (tgt := 110) X dX13_spellSmall_95 rfl ?_
        exact z_sub [1, 4] rfl (wkm_spellSmall_110 X K hR _ _ _ h)
    · have h := h.2 c11
      refine z_iconst X 0 dX13_spellSmall_84 ?_
      refine z_goto (tgt := 110) X dX13_spellSmall_85 rfl ?_
      exact z_sub [1, 4] rfl (wkm_spellSmall_110 X K hR _ _ _ h)
set_option maxRecDepth 100000 in
theorem wkm_spellSmall_68 {Γ : ZG} {l : Launch} {D : va_G} {cr : List vw_C} {ds : Nat → ClassId} {ad : Nat → Nat} {post : Int → ZS → Prop} (X : ZX Γ cX13_spellSmall RX13 2 20) (K : ZCap Γ l (ΘM D cr ds ad) 7 0 0) (hR : ZRetI Γ cX13_spellSmall .int 0 0 post) (v1 : Int) (v2 : Int) (v3 : Int) (v4 : Int) (σ : ZS) (h : wm_spellSmall_68 post v1 v2 v3 v4 σ) : Z Γ 0 0 σ [] 68 [(0, .ref (ad 0)), (1, .int (iz v1)), (2, .int (iz v2)), (3, .int (iz v3)), (4, .int (iz v4))] [] := by
  refine z_iload X 4 dX13_spellSmall_68 rfl ?_
  exact z_sub [0, 1, 2, 3] rfl (wkm_spellSmall_70 X K hR _ _ _ _ _ h)
set_option maxRecDepth 100000 in
theorem wkm_spellSmall_41 {Γ : ZG} {l : Launch} {D : va_G} {cr : List vw_C} {ds : Nat → ClassId} {ad : Nat → Nat} {post : Int → ZS → Prop} (X : ZX Γ cX13_spellSmall RX13 2 20) (K : ZCap Γ l (ΘM D cr ds ad) 7 0 0) (hR : ZRetI Γ cX13_spellSmall .int 0 0 post) (v1 : Int) (v2 : Int) (v3 : Int) (v4 : Int) (t0 : Int) (σ : ZS) (h : wm_spellSmall_41 post v1 v2 v3 v4 t0 σ) : Z Γ 0 0 σ [] 41 [(0, .ref (ad 0)), (1, .int (iz v1)), (2, .int (iz v2)), (3, .int (iz v3)), (4, .int (iz v4))] [.int (iz t0)] := by
  refine z_istoreK X K (lv' := [(5, .int (iz t0)), (0, .ref (ad 0)), (1, .int (iz v1)), (2, .int (iz v2)), (3, .int (iz v3)), (4, .int (iz v4))]) dX13_spellSmall_41 rfl rfl ?_
  refine z_iload_n X 3 dX13_spellSmall_43 rfl ?_
  refine z_iload X 0 dX13_spellSmall_44 rfl ?_
  obtain ⟨i1, h⟩ := h
  obtain ⟨i2, h⟩ := h
  refine z_icmp_lt X 68 dX13_spellSmall_46 rfl i1 i2 (fun c3 => ?_) (fun c3 => ?_)
  · have h := h.1 c3
    exact z_sub [1, 2, 3, 4, 5] rfl (wkm_spellSmall_68 X K hR _ _ _ _ _ h)
  · have h := h.2 c3
    refine z_iload_n X 3 dX13_spellSmall_49 rfl ?_
    refine z_iload X 0 dX13_spellSmall_50 rfl ?_
    refine z_bipush X 26 dX13_spellSmall_52 rfl ?_
    refine z_iadd X dX13_spellSmall_54 ?_
    obtain ⟨i4, h⟩ := h
    refine z_icmp_ge X 68 dX13_spellSmall_55 rfl i1 i4 (fun c5 => ?_) (fun c5 => ?_)
    · have h := h.1 c5
      exact z_sub [1, 2, 3, 4, 5] rfl (wkm_spellSmall_68 X K hR _ _ _ _ _ h)
    · have h := h.2 c5
      refine z_iload_n X 3 dX13_spellSmall_58 rfl ?_
      refine z_iload X 0 dX13_spellSmall_59 rfl ?_
      refine z_isub X dX13_spellSmall_61 ?_
      refine z_bipush X 14 dX13_spellSmall_62 rfl ?_
      refine z_iadd X dX13_spellSmall_64 ?_
      refine z_goto (tgt := 70) X dX13_spellSmall_65 rfl ?_
      exact z_sub [1, 2, 3, 4] rfl (wkm_spellSmall_70 X K hR _ _ _ _ _ h)
set_option maxRecDepth 100000 in
theorem wkm_spellSmall_27 {Γ : ZG} {l : Launch} {D : va_G} {cr : List vw_C} {ds : Nat → ClassId} {ad : Nat → Nat} {post : Int → ZS → Prop} (X : ZX Γ cX13_spellSmall RX13 2 20) (K : ZCap Γ l (ΘM D cr ds ad) 7 0 0) (hR : ZRetI Γ cX13_spellSmall .int 0 0 post) (v1 : Int) (v2 : Int) (v3 : Int) (t0 : Int) (σ : ZS) (h : wm_spellSmall_27 post v1 v2 v3 t0 σ) : Z Γ 0 0 σ [] 27 [(0, .ref (ad 0)), (1, .int (iz v1)), (2, .int (iz v2)), (3, .int (iz v3))] [.int (iz t0)] := by
  refine z_istoreK X K (lv' := [(4, .int (iz t0)), (0, .ref (ad 0)), (1, .int (iz v1)), (2, .int (iz v2)), (3, .int (iz v3))]) dX13_spellSmall_27 rfl rfl ?_
  refine z_iload_n X 2 dX13_spellSmall_29 rfl ?_
  refine z_iconst X 5 dX13_spellSmall_30 ?_
  obtain ⟨i1, h⟩ := h
  refine z_icmp_ne X 39 dX13_spellSmall_31 rfl i1 (by decide) (fun c2 => ?_) (fun c2 => ?_)
  · have h := h.1 c2
    refine z_bipush X 65 dX13_spellSmall_39 rfl ?_
    exact z_sub [1, 2, 3, 4, 0] rfl (wkm_spellSmall_41 X K hR _ _ _ _ _ _ h)
  · have h := h.2 c2
    refine z_bipush X 97 dX13_spellSmall_34 rfl ?_
    refine z_goto (tgt := 41) X dX13_spellSmall_36 rfl ?_
    exact z_sub [1, 2, 3, 4, 0] rfl (wkm_spellSmall_41 X K hR _ _ _ _ _ _ h)
set_option maxRecDepth 100000 in
theorem mt_spellSmall (l : Launch) (D : va_G) (cr : List vw_C) (ds : Nat → ClassId) (ad : Nat → Nat) (a0 : Int) (a1 : Int) (a2 : Int) (σ : ZS) (post : Int → ZS → Prop) (h : wm_spellSmall a0 a1 a2 σ post) : ZMetI l (ΘM D cr ds ad) yX13_spellSmall cX13_spellSmall 7 .int 2 20 0 0 [.ref (ad 0), .int (iz a0), .int (iz a1), .int (iz a2)] σ post := by
  refine ZMetI.of (by decide) (Nat.le_of_ble_eq_true rfl) (fun Γ X K hR => ?_)
  have X : ZX Γ cX13_spellSmall RX13 2 20 := X
  refine z_sub [0, 1, 2, 3] (lv' := [(0, .ref (ad 0)), (1, .int (iz a0)), (2, .int (iz a1)), (3, .int (iz a2))]) rfl ?_
  refine z_iload_n X 2 dX13_spellSmall_0 rfl ?_
  refine z_bipush X 32 dX13_spellSmall_1 rfl ?_
  obtain ⟨i1, h⟩ := h
  refine z_icmp_ne X 10 dX13_spellSmall_3 rfl i1 (by decide) (fun c2 => ?_) (fun c2 => ?_)
  · have h := h.1 c2
    refine z_iload_n X 2 dX13_spellSmall_10 rfl ?_
    refine clm_isDigit X K rfl h (Nat.le_of_ble_eq_true rfl) dX13_spellSmall_11 (fun r4 σ3 h => ?_)
    obtain ⟨b4, h⟩ := h
    have h := h b4
    refine z_if_eq X 26 dX13_spellSmall_14 rfl (InR_b b4) (fun c6 => ?_) (fun c6 => ?_)
    · have h := h.1 c6
      refine z_iconst X (-1) dX13_spellSmall_26 ?_
      exact z_sub [0, 1, 2, 3] rfl (wkm_spellSmall_27 X K hR _ _ _ _ _ h)
    · have h := h.2 c6
      refine z_iload_n X 2 dX13_spellSmall_17 rfl ?_
      refine z_bipush X 48 dX13_spellSmall_18 rfl ?_
      refine z_isub X dX13_spellSmall_20 ?_
      refine z_iconst X 4 dX13_spellSmall_21 ?_
      refine z_iadd X dX13_spellSmall_22 ?_
      refine z_goto (tgt := 27) X dX13_spellSmall_23 rfl ?_
      exact z_sub [0, 1, 2, 3] rfl (wkm_spellSmall_27 X K hR _ _ _ _ _ h)
  · have h := h.2 c2
    refine z_iconst X 3 dX13_spellSmall_6 ?_
    refine z_goto (tgt := 27) X dX13_spellSmall_7 rfl ?_
    exact z_sub [0, 1, 2, 3] rfl (wkm_spellSmall_27 X K hR _ _ _ _ _ h)
set_option maxRecDepth 100000 in
theorem clm_spellSmall {Γ : ZG} {cc : ByteArray} {fr lo nL pc : Nat} {lv : List (Nat × Value)} {st : List Value} {l : Launch} {D : va_G} {cr : List vw_C} {ds : Nat → ClassId} {ad : Nat → Nat} {a0 : Int} {a1 : Int} {a2 : Int} {σ : ZS} {post : Int → ZS → Prop} (X : ZX Γ cc RX13 fr lo) (K : ZCap Γ l (ΘM D cr ds ad) nL 0 0) (hrm : zroom 3 46 fr lo = true) (h : wm_spellSmall a0 a1 a2 σ post) (hst : (st.map fun v => v.category).sum ≤ 8) (d : decode cc pc = .ok (.invokevirtual 335, 3)) (kk : ∀ (r : Int) (σ' : ZS), post r σ' → Z Γ 0 0 σ' [] (pc + 3) lv (.int (iz r) :: st)) : Z Γ 0 0 σ [] pc lv (.int (iz a2) :: .int (iz a1) :: .int (iz a0) :: .ref (ad 0) :: st) :=
  z_callVI' (C := RX13) (q0 := 0) X K (mt_spellSmall l D cr ds ad a0 a1 a2 σ post h) (Nat.le_of_ble_eq_true rfl) rfl rfl rfl (lw_V q1616 q1618 qs82 q127 q1619) ⟨rfl, by decide, by decide, rfl⟩ (zroom_of hrm) ⟨Nat.zero_le _, Nat.zero_le _⟩ hst d rfl kk
/- X13_spell -/
set_option maxRecDepth 100000 in
theorem wkm_spell_27 {Γ : ZG} {l : Launch} {D : va_G} {cr : List vw_C} {ds : Nat → ClassId} {ad : Nat → Nat} {post : Int → ZS → Prop} (X : ZX Γ cX13_spell RX13 3 46) (K : ZCap Γ l (ΘM D cr ds ad) 4 0 0) (hR : ZRetI Γ cX13_spell .int 0 0 post) (t0 : Int) (σ : ZS) (h : wm_spell_27 post t0 σ) : Z Γ 0 0 σ [] 27 [(0, .ref (ad 0))] [.int (iz t0)] := by
  refine z_istore_nK X K (lv' := [(3, .int (iz t0)), (0, .ref (ad 0))]) dX13_spell_27 rfl rfl ?_
  refine z_aload_n X 1 dX13_spell_28 rfl ?_
  refine gM_50 X K dX13_spell_29 ?_
  refine z_iconst X 0 dX13_spell_32 ?_
  refine z_iconst X 1 dX13_spell_33 ?_
  refine sM_27 X K dX13_spell_34 (by decide) (fun σ1 eσ1 => ?_)
  have h := h σ1 eσ1
  refine z_aload_n X 1 dX13_spell_35 rfl ?_
  refine gM_50 X K dX13_spell_36 ?_
  refine z_iconst X 1 dX13_spell_39 ?_
  refine z_bipush X 30 dX13_spell_40 rfl ?_
  refine sM_27 X K dX13_spell_42 (by decide) (fun σ2 eσ2 => ?_)
  have h := h σ2 eσ2
  refine z_iload_n X 0 dX13_spell_43 rfl ?_
  exact hR _ _ _ _ _ _ _ dX13_spell_44 rfl (Nat.le_refl 0) (Nat.le_refl 0) h
set_option maxRecDepth 100000 in
theorem mt_spell (l : Launch) (D : va_G) (cr : List vw_C) (ds : Nat → ClassId) (ad : Nat → Nat) (a0 : Int) (a1 : Int) (σ : ZS) (post : Int → ZS → Prop) (h : wm_spell a0 a1 σ post) : ZMetI l (ΘM D cr ds ad) yX13_spell cX13_spell 4 .int 3 46 0 0 [.ref (ad 0), .int (iz a0), .int (iz a1)] σ post := by
  refine ZMetI.of (by decide) (Nat.le_of_ble_eq_true rfl) (fun Γ X K hR => ?_)
  have X : ZX Γ cX13_spell RX13 3 46 := X
  refine z_sub [0, 1, 2] (lv' := [(0, .ref (ad 0)), (1, .int (iz a0)), (2, .int (iz a1))]) rfl ?_
  refine z_iload_n X 2 dX13_spell_0 rfl ?_
  refine z_bipush X 127 dX13_spell_1 rfl ?_
  obtain ⟨i1, h⟩ := h
  refine z_icmp_le X 45 dX13_spell_3 rfl i1 (by decide) (fun c2 => ?_) (fun c2 => ?_)
  · have h := h.1 c2
    refine z_aload_n X 0 dX13_spell_45 rfl ?_
    refine z_iload_n X 1 dX13_spell_46 rfl ?_
    refine z_iload_n X 2 dX13_spell_47 rfl ?_
    refine z_iconst X 0 dX13_spell_48 ?_
    refine clm_spellSmall X K rfl h (Nat.le_of_ble_eq_true rfl) dX13_spell_49 (fun r4 σ3 h => ?_)
    exact hR _ _ _ _ _ _ _ dX13_spell_52 rfl (Nat.le_refl 0) (Nat.le_refl 0) h
  · have h := h.2 c2
    refine z_iload_n X 1 dX13_spell_6 rfl ?_
    refine z_bipush X 6 dX13_spell_7 rfl ?_
    obtain ⟨i5, h⟩ := h
    refine z_icmp_ne X 16 dX13_spell_9 rfl i5 (by decide) (fun c6 => ?_) (fun c6 => ?_)
    · have h := h.1 c6
      refine z_aload_n X 0 dX13_spell_16 rfl ?_
      refine z_iload_n X 1 dX13_spell_17 rfl ?_
      refine z_iload_n X 2 dX13_spell_18 rfl ?_
      refine z_sipush X 128 dX13_spell_19 rfl ?_
      refine z_isub X dX13_spell_22 ?_
      refine z_iconst X 2 dX13_spell_23 ?_
      refine clm_spellSmall X K rfl h (Nat.le_of_ble_eq_true rfl) dX13_spell_24 (fun r8 σ7 h => ?_)
      exact z_sub [0] rfl (wkm_spell_27 X K hR _ _ h)
    · have h := h.2 c6
      refine z_iconst X 0 dX13_spell_12 ?_
      refine z_goto (tgt := 27) X dX13_spell_13 rfl ?_
      exact z_sub [0] rfl (wkm_spell_27 X K hR _ _ h)
set_option maxRecDepth 100000 in
theorem clm_spell {Γ : ZG} {cc : ByteArray} {fr lo nL pc : Nat} {lv : List (Nat × Value)} {st : List Value} {l : Launch} {D : va_G} {cr : List vw_C} {ds : Nat → ClassId} {ad : Nat → Nat} {a0 : Int} {a1 : Int} {σ : ZS} {post : Int → ZS → Prop} (X : ZX Γ cc RX13 fr lo) (K : ZCap Γ l (ΘM D cr ds ad) nL 0 0) (hrm : zroom 4 69 fr lo = true) (h : wm_spell a0 a1 σ post) (hst : (st.map fun v => v.category).sum ≤ 8) (d : decode cc pc = .ok (.invokevirtual 347, 3)) (kk : ∀ (r : Int) (σ' : ZS), post r σ' → Z Γ 0 0 σ' [] (pc + 3) lv (.int (iz r) :: st)) : Z Γ 0 0 σ [] pc lv (.int (iz a1) :: .int (iz a0) :: .ref (ad 0) :: st) :=
  z_callVI' (C := RX13) (q0 := 0) X K (mt_spell l D cr ds ad a0 a1 σ post h) (Nat.le_of_ble_eq_true rfl) rfl rfl rfl (lw_V q1612 q1614 qs81 q127 q1615) ⟨rfl, by decide, by decide, rfl⟩ (zroom_of hrm) ⟨Nat.zero_le _, Nat.zero_le _⟩ hst d rfl kk
/- X13_putThrees -/
set_option maxRecDepth 100000 in
theorem wkm_putThrees_102 {Γ : ZG} {l : Launch} {D : va_G} {cr : List vw_C} {ds : Nat → ClassId} {ad : Nat → Nat} {post : ZS → Prop} (X : ZX Γ cX13_putThrees RX13 4 69) (K : ZCap Γ l (ΘM D cr ds ad) 9 0 0) (hR : ZRetV Γ cX13_putThrees 0 0 post) {C38 : Int × Int × Int × Int × Int × Int × ZS → Prop} (hC38 : ∀ (v1 : Int) (v2 : Int) (v3 : Int) (v4 : Int) (v5 : Int) (v6 : Int) (σ : ZS), C38 (v1, v2, v3, v4, v5, v6, σ) → Z Γ 0 0 σ [] 38 [(0, .ref (ad 0)), (1, .int (iz v1)), (2, .int (iz v2)), (3, .int (iz v3)), (4, .int (iz v4)), (5, .int (iz v5)), (6, .int (iz v6))] []) {C63 : Int × Int × Int × Int × Int × Int × Int × Int × ZS → Prop} (hC63 : ∀ (v1 : Int) (v2 : Int) (v3 : Int) (v4 : Int) (v5 : Int) (v6 : Int) (v7 : Int) (v8 : Int) (σ : ZS), C63 (v1, v2, v3, v4, v5, v6, v7, v8, σ) → Z Γ 0 0 σ [] 63 [(0, .ref (ad 0)), (1, .int (iz v1)), (2, .int (iz v2)), (3, .int (iz v3)), (4, .int (iz v4)), (5, .int (iz v5)), (6, .int (iz v6)), (7, .int (iz v7)), (8, .int (iz v8))] []) (v1 : Int) (v2 : Int) (v3 : Int) (v4 : Int) (v6 : Int) (v7 : Int) (v8 : Int) (t0 : Int) (t1 : Int) (t2 : Int) (σ : ZS) (h : wm_putThrees_102 C38 C63 post v1 v2 v3 v4 v6 v7 v8 t0 t1 t2 σ) : Z Γ 0 0 σ [] 102 [(0, .ref (ad 0)), (1, .int (iz v1)), (2, .int (iz v2)), (3, .int (iz v3)), (4, .int (iz v4)), (6, .int (iz v6)), (7, .int (iz v7)), (8, .int (iz v8))] [.int (iz t0), .int (iz t1), .int (iz t2)] := by
  refine z_imul X dX13_putThrees_102 ?_
  refine z_iadd X dX13_putThrees_103 ?_
  refine z_topi (fun v5_1 ev5_1 => ?_)
  have h := h v5_1 ev5_1
  refine z_istoreK X K (lv' := [(5, .int (iz v5_1)), (0, .ref (ad 0)), (1, .int (iz v1)), (2, .int (iz v2)), (3, .int (iz v3)), (4, .int (iz v4)), (6, .int (iz v6)), (7, .int (iz v7)), (8, .int (iz v8))]) dX13_putThrees_104 rfl rfl ?_
  refine z_iincK X K 5 (lv' := [(4, .int (iz (v4 + 1))), (5, .int (iz v5_1)), (0, .ref (ad 0)), (1, .int (iz v1)), (2, .int (iz v2)), (3, .int (iz v3)), (6, .int (iz v6)), (7, .int (iz v7)), (8, .int (iz v8))]) dX13_putThrees_106 rfl rfl rfl ?_
  refine z_iload X 0 dX13_putThrees_109 rfl ?_
  refine z_iconst X 3 dX13_putThrees_111 ?_
  obtain ⟨i2, h⟩ := h
  refine z_icmp_ne X 140 dX13_putThrees_112 rfl i2 (by decide) (fun c3 => ?_) (fun c3 => ?_)
  · have h := h.1 c3
    refine z_iincK X K 8 (lv' := [(8, .int (iz (v8 + 1))), (4, .int (iz (v4 + 1))), (5, .int (iz v5_1)), (0, .ref (ad 0)), (1, .int (iz v1)), (2, .int (iz v2)), (3, .int (iz v3)), (6, .int (iz v6)), (7, .int (iz v7))]) dX13_putThrees_140 rfl rfl rfl ?_
    refine z_goto (tgt := 63) X dX13_putThrees_143 rfl ?_
    exact z_sub [3, 4, 5, 6, 1, 2, 7, 8, 0] rfl (hC63 _ _ _ _ _ _ _ _ _ h)
  · have h := h.2 c3
    refine z_aload_n X 2 dX13_putThrees_115 rfl ?_
    refine z_iload X 1 dX13_putThrees_116 rfl ?_
    refine z_bipush X 8 dX13_putThrees_118 rfl ?_
    obtain ⟨i4, h⟩ := h
    refine z_ishrm X 8 (M := 256) rfl rfl rfl dX13_putThrees_120 i4 ?_
    refine clm_put X K rfl h (Nat.le_of_ble_eq_true rfl) dX13_putThrees_121 (fun σ5 h => ?_)
    refine z_aload_n X 2 dX13_putThrees_124 rfl ?_
    refine z_iload X 1 dX13_putThrees_125 rfl ?_
    refine z_sipush X 255 dX13_putThrees_127 rfl ?_
    refine z_iandm X 8 (M := 256) rfl rfl rfl dX13_putThrees_130 ?_
    refine clm_put X K rfl h (Nat.le_of_ble_eq_true rfl) dX13_putThrees_131 (fun σ6 h => ?_)
    refine z_iconst X 0 dX13_putThrees_134 ?_
    refine z_istoreK X K (lv' := [(4, .int (iz 0)), (5, .int (iz v5_1)), (0, .ref (ad 0)), (1, .int (iz v1)), (2, .int (iz v2)), (3, .int (iz v3)), (6, .int (iz v6)), (7, .int (iz v7)), (8, .int (iz v8))]) dX13_putThrees_135 rfl rfl ?_
    refine z_iconst X 1 dX13_putThrees_137 ?_
    refine z_istoreK X K (lv' := [(5, .int (iz 1)), (4, .int (iz 0)), (0, .ref (ad 0)), (1, .int (iz v1)), (2, .int (iz v2)), (3, .int (iz v3)), (6, .int (iz v6)), (7, .int (iz v7)), (8, .int (iz v8))]) dX13_putThrees_138 rfl rfl ?_
    refine z_iincK X K 8 (lv' := [(8, .int (iz (v8 + 1))), (5, .int (iz 1)), (4, .int (iz 0)), (0, .ref (ad 0)), (1, .int (iz v1)), (2, .int (iz v2)), (3, .int (iz v3)), (6, .int (iz v6)), (7, .int (iz v7))]) dX13_putThrees_140 rfl rfl rfl ?_
    refine z_goto (tgt := 63) X dX13_putThrees_143 rfl ?_
    exact z_sub [3, 4, 5, 6, 2, 1, 7, 8, 0] rfl (hC63 _ _ _ _ _ _ _ _ _ h)
set_option maxRecDepth 100000 in
theorem wkm_putThrees_63 {Γ : ZG} {l : Launch} {D : va_G} {cr : List vw_C} {ds : Nat → ClassId} {ad : Nat → Nat} {post : ZS → Prop} (X : ZX Γ cX13_putThrees RX13 4 69) (K : ZCap Γ l (ΘM D cr ds ad) 9 0 0) (hR : ZRetV Γ cX13_putThrees 0 0 post) {C38 : Int × Int × Int × Int × Int × Int × ZS → Prop} (hC38 : ∀ (v1 : Int) (v2 : Int) (v3 : Int) (v4 : Int) (v5 : Int) (v6 : Int) (σ : ZS), C38 (v1, v2, v3, v4, v5, v6, σ) → Z Γ 0 0 σ [] 38 [(0, .ref (ad 0)), (1, .int (iz v1)), (2, .int (iz v2)), (3, .int (iz v3)), (4, .int (iz v4)), (5, .int (iz v5)), (6, .int (iz v6))] []) : ∀ (N : Nat) (v1 : Int) (v2 : Int) (v3 : Int) (v4 : Int) (v5 : Int) (v6 : Int) (v7 : Int) (v8 : Int) (σ : ZS), zfix (wbm_putThrees_63 C38 post) N (v1, v2, v3, v4, v5, v6, v7, v8, σ) → Z Γ 0 0 σ [] 63 [(0, .ref (ad 0)), (1, .int (iz v1)), (2, .int (iz v2)), (3, .int (iz v3)), (4, .int (iz v4)), (5, .int (iz v5)), (6, .int (iz v6)), (7, .int (iz v7)), (8, .int (iz v8))] [] := by
  intro N
  induction N with
  | zero => intro v1 v2 v3 v4 v5 v6 v7 v8 σ h; exact False.elim h
  | succ N ih =>
    intro v1 v2 v3 v4 v5 v6 v7 v8 σ h
    have h : wbm_putThrees_63 C38 post (zfix (wbm_putThrees_63 C38 post) N) (v1, v2, v3, v4, v5, v6, v7, v8, σ) := h
    have hC63 := ih
    clear ih
    generalize zfix (wbm_putThrees_63 C38 post) N = C63 at h hC63
    dsimp only [wbm_putThrees_63] at h
    refine z_iload X 8 dX13_putThrees_63 rfl ?_
    refine z_iload X 7 dX13_putThrees_65 rfl ?_
    obtain ⟨i1, h⟩ := h
    obtain ⟨i2, h⟩ := h
    refine z_icmp_ge X 146 dX13_putThrees_67 rfl i1 i2 (fun c3 => ?_) (fun c3 => ?_)
    · have h := h.1 c3
      refine z_iincK X K 6 (lv' := [(6, .int (iz (v6 + 1))), (0, .ref (ad 0)), (1, .int (iz v1)), (2, .int (iz v2)), (3, .int (iz v3)), (4, .int (iz v4)), (5, .int (iz v5)), (7, .int (iz v7)), (8, .int (iz v8))]) dX13_putThrees_146 rfl rfl rfl ?_
      refine z_goto (tgt := 38) X dX13_putThrees_149 rfl ?_
      exact z_sub [1, 2, 3, 4, 5, 6, 0] rfl (hC38 _ _ _ _ _ _ _ h)
    · have h := h.2 c3
      refine z_iload X 5 dX13_putThrees_70 rfl ?_
      refine z_aload_n X 0 dX13_putThrees_72 rfl ?_
      refine gM_50 X K dX13_putThrees_73 ?_
      refine z_iload X 8 dX13_putThrees_76 rfl ?_
      obtain ⟨x4, h⟩ := h
      refine aM_27 X K dX13_putThrees_78 x4 ?_
      refine z_iload X 4 dX13_putThrees_79 rfl ?_
      obtain ⟨i5, h⟩ := h
      refine z_if_ne X 90 dX13_putThrees_81 rfl i5 (fun c6 => ?_) (fun c6 => ?_)
      · have h := h.1 c6
        refine z_iload X 4 dX13_putThrees_90 rfl ?_
        refine z_iconst X 1 dX13_putThrees_92 ?_
        refine z_icmp_ne X 101 dX13_putThrees_93 rfl i5 (by decide) (fun c7 => ?_) (fun c7 => ?_)
        · have h := h.1 c7
          refine z_iconst X 1 dX13_putThrees_101 ?_
          exact z_sub [0, 1, 2, 3, 4, 6, 7, 8] rfl (wkm_putThrees_102 X K hR hC38 hC63 _ _ _ _ _ _ _ _ _ _ _ h)
        · have h := h.2 c7
          refine z_bipush X 40 dX13_putThrees_96 rfl ?_
          refine z_goto (tgt := 102) X dX13_putThrees_98 rfl ?_
          exact z_sub [0, 1, 2, 3, 4, 6, 7, 8] rfl (wkm_putThrees_102 X K hR hC38 hC63 _ _ _ _ _ _ _ _ _ _ _ h)
      · have h := h.2 c6
        refine z_sipush X 1600 dX13_putThrees_84 rfl ?_
        refine z_goto (tgt := 102) X dX13_putThrees_87 rfl ?_
        exact z_sub [0, 1, 2, 3, 4, 6, 7, 8] rfl (wkm_putThrees_102 X K hR hC38 hC63 _ _ _ _ _ _ _ _ _ _ _ h)
set_option maxRecDepth 100000 in
theorem wkm_putThrees_38 {Γ : ZG} {l : Launch} {D : va_G} {cr : List vw_C} {ds : Nat → ClassId} {ad : Nat → Nat} {post : ZS → Prop} (X : ZX Γ cX13_putThrees RX13 4 69) (K : ZCap Γ l (ΘM D cr ds ad) 9 0 0) (hR : ZRetV Γ cX13_putThrees 0 0 post) : ∀ (N : Nat) (v1 : Int) (v2 : Int) (v3 : Int) (v4 : Int) (v5 : Int) (v6 : Int) (σ : ZS), zfix (wbm_putThrees_38 post) N (v1, v2, v3, v4, v5, v6, σ) → Z Γ 0 0 σ [] 38 [(0, .ref (ad 0)), (1, .int (iz v1)), (2, .int (iz v2)), (3, .int (iz v3)), (4, .int (iz v4)), (5, .int (iz v5)), (6, .int (iz v6))] [] := by
  intro N
  induction N with
  | zero => intro v1 v2 v3 v4 v5 v6 σ h; exact False.elim h
  | succ N ih =>
    intro v1 v2 v3 v4 v5 v6 σ h
    have h : wbm_putThrees_38 post (zfix (wbm_putThrees_38 post) N) (v1, v2, v3, v4, v5, v6, σ) := h
    have hC38 := ih
    clear ih
    generalize zfix (wbm_putThrees_38 post) N = C38 at h hC38
    dsimp only [wbm_putThrees_38] at h
    refine z_iload X 6 dX13_putThrees_38 rfl ?_
    refine z_iload_n X 2 dX13_putThrees_40 rfl ?_
    refine z_iload_n X 3 dX13_putThrees_41 rfl ?_
    refine z_iadd X dX13_putThrees_42 ?_
    obtain ⟨i1, h⟩ := h
    obtain ⟨i2, h⟩ := h
    refine z_icmp_ge X 152 dX13_putThrees_43 rfl i1 i2 (fun c3 => ?_) (fun c3 => ?_)
    · have h := h.1 c3
      refine z_iload X 4 dX13_putThrees_152 rfl ?_
      refine z_iconst X 2 dX13_putThrees_154 ?_
      obtain ⟨i4, h⟩ := h
      refine z_icmp_ne X 177 dX13_putThrees_155 rfl i4 (by decide) (fun c5 => ?_) (fun c5 => ?_)
      · have h := h.1 c5
        exact hR _ _ _ _ _ _ dX13_putThrees_177 (Nat.le_refl 0) (Nat.le_refl 0) h
      · have h := h.2 c5
        refine z_aload_n X 0 dX13_putThrees_158 rfl ?_
        refine z_iload X 5 dX13_putThrees_159 rfl ?_
        refine z_bipush X 8 dX13_putThrees_161 rfl ?_
        obtain ⟨i6, h⟩ := h
        refine z_ishrm X 8 (M := 256) rfl rfl rfl dX13_putThrees_163 i6 ?_
        refine clm_put X K rfl h (Nat.le_of_ble_eq_true rfl) dX13_putThrees_164 (fun σ7 h => ?_)
        refine z_aload_n X 0 dX13_putThrees_167 rfl ?_
        refine z_iload X 5 dX13_putThrees_168 rfl ?_
        refine z_sipush X 255 dX13_putThrees_170 rfl ?_
        refine z_iandm X 8 (M := 256) rfl rfl rfl dX13_putThrees_173 ?_
        refine clm_put X K rfl h (Nat.le_of_ble_eq_true rfl) dX13_putThrees_174 (fun σ8 h => ?_)
        exact hR _ _ _ _ _ _ dX13_putThrees_177 (Nat.le_refl 0) (Nat.le_refl 0) h
    · have h := h.2 c3
      refine z_aload_n X 0 dX13_putThrees_46 rfl ?_
      refine z_iload_n X 1 dX13_putThrees_47 rfl ?_
      refine z_aload_n X 0 dX13_putThrees_48 rfl ?_
      refine gM_9 X K dX13_putThrees_49 ?_
      refine z_iload X 6 dX13_putThrees_52 rfl ?_
      obtain ⟨x9, h⟩ := h
      refine aM_9 X K dX13_putThrees_54 x9 ?_
      refine clm_spell X K rfl h (Nat.le_of_ble_eq_true rfl) dX13_putThrees_55 (fun r11 σ10 h => ?_)
      refine z_istoreK X K (lv' := [(7, .int (iz r11)), (0, .ref (ad 0)), (1, .int (iz v1)), (2, .int (iz v2)), (3, .int (iz v3)), (4, .int (iz v4)), (5, .int (iz v5)), (6, .int (iz v6))]) dX13_putThrees_58 rfl rfl ?_
      refine z_iconst X 0 dX13_putThrees_60 ?_
      refine z_istoreK X K (lv' := [(8, .int (iz 0)), (7, .int (iz r11)), (0, .ref (ad 0)), (1, .int (iz v1)), (2, .int (iz v2)), (3, .int (iz v3)), (4, .int (iz v4)), (5, .int (iz v5)), (6, .int (iz v6))]) dX13_putThrees_61 rfl rfl ?_
      obtain ⟨N, h⟩ := h
      exact z_sub [2, 3, 4, 5, 6, 7, 8, 1, 0] rfl (wkm_putThrees_63 X K hR hC38 N _ _ _ _ _ _ _ _ _ h)
set_option maxRecDepth 100000 in
theorem wkm_putThrees_26 {Γ : ZG} {l : Launch} {D : va_G} {cr : List vw_C} {ds : Nat → ClassId} {ad : Nat → Nat} {post : ZS → Prop} (X : ZX Γ cX13_putThrees RX13 4 69) (K : ZCap Γ l (ΘM D cr ds ad) 9 0 0) (hR : ZRetV Γ cX13_putThrees 0 0 post) (v1 : Int) (v2 : Int) (v3 : Int) (t0 : Int) (σ : ZS) (h : wm_putThrees_26 post v1 v2 v3 t0 σ) : Z Γ 0 0 σ [] 26 [(0, .ref (ad 0)), (1, .int (iz v1)), (2, .int (iz v2)), (3, .int (iz v3))] [.int (iz t0), .ref (ad 0)] := by
  refine clm_put X K rfl h (Nat.le_of_ble_eq_true rfl) dX13_putThrees_26 (fun σ1 h => ?_)
  refine z_iconst X 0 dX13_putThrees_29 ?_
  refine z_istoreK X K (lv' := [(4, .int (iz 0)), (0, .ref (ad 0)), (1, .int (iz v1)), (2, .int (iz v2)), (3, .int (iz v3))]) dX13_putThrees_30 rfl rfl ?_
  refine z_iconst X 1 dX13_putThrees_32 ?_
  refine z_istoreK X K (lv' := [(5, .int (iz 1)), (4, .int (iz 0)), (0, .ref (ad 0)), (1, .int (iz v1)), (2, .int (iz v2)), (3, .int (iz v3))]) dX13_putThrees_33 rfl rfl ?_
  refine z_iload_n X 4 dX13_putThrees_35 rfl ?_
  refine z_istoreK X K (lv' := [(6, .int (iz v2)), (5, .int (iz 1)), (4, .int (iz 0)), (0, .ref (ad 0)), (1, .int (iz v1)), (2, .int (iz v2)), (3, .int (iz v3))]) dX13_putThrees_36 rfl rfl ?_
  obtain ⟨N, h⟩ := h
  exact z_sub [3, 4, 5, 6, 2, 1, 0] rfl (wkm_putThrees_38 X K hR N _ _ _ _ _ _ _ h)
set_option maxRecDepth 100000 in
theorem mt_putThrees (l : Launch) (D : va_G) (cr : List vw_C) (ds : Nat → ClassId) (ad : Nat → Nat) (a0 : Int) (a1 : Int) (a2 : Int) (σ : ZS) (post : ZS → Prop) (h : wm_putThrees a0 a1 a2 σ post) : ZMetV l (ΘM D cr ds ad) yX13_putThrees cX13_putThrees 9 4 69 0 0 [.ref (ad 0), .int (iz a0), .int (iz a1), .int (iz a2)] σ post := by
  refine ZMetV.of (by decide) (Nat.le_of_ble_eq_true rfl) (fun Γ X K hR => ?_)
  have X : ZX Γ cX13_putThrees RX13 4 69 := X
  refine z_sub [0, 1, 2, 3] (lv' := [(0, .ref (ad 0)), (1, .int (iz a0)), (2, .int (iz a1)), (3, .int (iz a2))]) rfl ?_
  refine z_aload_n X 0 dX13_putThrees_0 rfl ?_
  refine z_iload_n X 1 dX13_putThrees_1 rfl ?_
  refine z_iconst X 4 dX13_putThrees_2 ?_
  obtain ⟨i1, h⟩ := h
  refine z_icmp_ne X 12 dX13_putThrees_3 rfl i1 (by decide) (fun c2 => ?_) (fun c2 => ?_)
  · have h := h.1 c2
    refine z_iload_n X 1 dX13_putThrees_12 rfl ?_
    refine z_iconst X 5 dX13_putThrees_13 ?_
    refine z_icmp_ne X 23 dX13_putThrees_14 rfl i1 (by decide) (fun c3 => ?_) (fun c3 => ?_)
    · have h := h.1 c3
      refine z_sipush X 238 dX13_putThrees_23 rfl ?_
      exact z_sub [0, 1, 2, 3] rfl (wkm_putThrees_26 X K hR _ _ _ _ _ h)
    · have h := h.2 c3
      refine z_sipush X 239 dX13_putThrees_17 rfl ?_
      refine z_goto (tgt := 26) X dX13_putThrees_20 rfl ?_
      exact z_sub [0, 1, 2, 3] rfl (wkm_putThrees_26 X K hR _ _ _ _ _ h)
  · have h := h.2 c2
    refine z_sipush X 230 dX13_putThrees_6 rfl ?_
    refine z_goto (tgt := 26) X dX13_putThrees_9 rfl ?_
    exact z_sub [0, 1, 2, 3] rfl (wkm_putThrees_26 X K hR _ _ _ _ _ h)
set_option maxRecDepth 100000 in
theorem clm_putThrees {Γ : ZG} {cc : ByteArray} {fr lo nL pc : Nat} {lv : List (Nat × Value)} {st : List Value} {l : Launch} {D : va_G} {cr : List vw_C} {ds : Nat → ClassId} {ad : Nat → Nat} {a0 : Int} {a1 : Int} {a2 : Int} {σ : ZS} {post : ZS → Prop} (X : ZX Γ cc RX13 fr lo) (K : ZCap Γ l (ΘM D cr ds ad) nL 0 0) (hrm : zroom 5 97 fr lo = true) (h : wm_putThrees a0 a1 a2 σ post) (hst : (st.map fun v => v.category).sum ≤ 8) (d : decode cc pc = .ok (.invokevirtual 399, 3)) (kk : ∀ (σ' : ZS), post σ' → Z Γ 0 0 σ' [] (pc + 3) lv (st)) : Z Γ 0 0 σ [] pc lv (.int (iz a2) :: .int (iz a1) :: .int (iz a0) :: .ref (ad 0) :: st) :=
  z_callVV' (C := RX13) (q0 := 0) X K (mt_putThrees l D cr ds ad a0 a1 a2 σ post h) (Nat.le_of_ble_eq_true rfl) rfl rfl rfl (lw_V q1705 q1707 qs102 q127 q1708) ⟨rfl, by decide, by decide, rfl⟩ (zroom_of hrm) ⟨Nat.zero_le _, Nat.zero_le _⟩ hst d rfl kk
/- X13_runThrees -/
set_option maxRecDepth 100000 in
theorem wkm_runThrees_156 {Γ : ZG} {l : Launch} {D : va_G} {cr : List vw_C} {ds : Nat → ClassId} {ad : Nat → Nat} {post : Int → ZS → Prop} (X : ZX Γ cX13_runThrees RX13 5 97) (K : ZCap Γ l (ΘM D cr ds ad) 9 0 0) (hR : ZRetI Γ cX13_runThrees .int 0 0 post) (v1 : Int) (v2 : Int) (v5 : Int) (v8 : Int) (σ : ZS) (h : wm_runThrees_156 post v1 v2 v5 v8 σ) : Z Γ 0 0 σ [] 156 [(0, .ref (ad 0)), (1, .int (iz v1)), (2, .int (iz v2)), (5, .int (iz v5)), (8, .int (iz v8))] [] := by
  refine z_aload_n X 0 dX13_runThrees_156 rfl ?_
  refine z_iload_n X 1 dX13_runThrees_157 rfl ?_
  refine z_iload_n X 2 dX13_runThrees_158 rfl ?_
  refine z_iload X 3 dX13_runThrees_159 rfl ?_
  refine clm_putThrees X K rfl h (Nat.le_of_ble_eq_true rfl) dX13_runThrees_161 (fun σ1 h => ?_)
  refine z_iload X 4 dX13_runThrees_164 rfl ?_
  obtain ⟨i2, h⟩ := h
  refine z_if_eq X 179 dX13_runThrees_166 rfl i2 (fun c3 => ?_) (fun c3 => ?_)
  · have h := h.1 c3
    refine z_aload_n X 0 dX13_runThrees_179 rfl ?_
    refine z_iconst X 1 dX13_runThrees_180 ?_
    refine pM_58 X K (Or.inr rfl) dX13_runThrees_181 (fun σ4 eσ4 => ?_)
    have h := h σ4 eσ4
    refine z_iload X 3 dX13_runThrees_184 rfl ?_
    exact hR _ _ _ _ _ _ _ dX13_runThrees_186 rfl (Nat.le_refl 0) (Nat.le_refl 0) h
  · have h := h.2 c3
    refine z_aload_n X 0 dX13_runThrees_169 rfl ?_
    refine z_sipush X 254 dX13_runThrees_170 rfl ?_
    refine clm_put X K rfl h (Nat.le_of_ble_eq_true rfl) dX13_runThrees_173 (fun σ5 h => ?_)
    refine z_goto (tgt := 184) X dX13_runThrees_176 rfl ?_
    refine z_iload X 3 dX13_runThrees_184 rfl ?_
    exact hR _ _ _ _ _ _ _ dX13_runThrees_186 rfl (Nat.le_refl 0) (Nat.le_refl 0) h
set_option maxRecDepth 100000 in
theorem wkm_runThrees_133 {Γ : ZG} {l : Launch} {D : va_G} {cr : List vw_C} {ds : Nat → ClassId} {ad : Nat → Nat} {post : Int → ZS → Prop} (X : ZX Γ cX13_runThrees RX13 5 97) (K : ZCap Γ l (ΘM D cr ds ad) 9 0 0) (hR : ZRetI Γ cX13_runThrees .int 0 0 post) {C6 : Int × Int × Int × Int × Int × ZS → Prop} (hC6 : ∀ (v1 : Int) (v2 : Int) (v3 : Int) (v4 : Int) (v5 : Int) (σ : ZS), C6 (v1, v2, v3, v4, v5, σ) → Z Γ 0 0 σ [] 6 [(0, .ref (ad 0)), (1, .int (iz v1)), (2, .int (iz v2)), (3, .int (iz v3)), (4, .int (iz v4)), (5, .int (iz v5))] []) (v1 : Int) (v2 : Int) (v3 : Int) (v4 : Int) (v5 : Int) (v7 : Int) (t0 : Int) (σ : ZS) (h : wm_runThrees_133 C6 post v1 v2 v3 v4 v5 v7 t0 σ) : Z Γ 0 0 σ [] 133 [(0, .ref (ad 0)), (1, .int (iz v1)), (2, .int (iz v2)), (3, .int (iz v3)), (4, .int (iz v4)), (5, .int (iz v5)), (7, .int (iz v7))] [.int (iz t0)] := by
  refine z_istoreK X K (lv' := [(8, .int (iz t0)), (0, .ref (ad 0)), (1, .int (iz v1)), (2, .int (iz v2)), (3, .int (iz v3)), (4, .int (iz v4)), (5, .int (iz v5)), (7, .int (iz v7))]) dX13_runThrees_133 rfl rfl ?_
  refine z_iload X 0 dX13_runThrees_135 rfl ?_
  obtain ⟨i1, h⟩ := h
  refine z_if_ne X 156 dX13_runThrees_137 rfl i1 (fun c2 => ?_) (fun c2 => ?_)
  · have h := h.1 c2
    exact z_sub [1, 2, 3, 6, 0] rfl (wkm_runThrees_156 X K hR _ _ _ _ _ h)
  · have h := h.2 c2
    refine z_aload_n X 1 dX13_runThrees_140 rfl ?_
    refine z_iload_n X 3 dX13_runThrees_141 rfl ?_
    refine z_iload X 6 dX13_runThrees_142 rfl ?_
    refine z_iadd X dX13_runThrees_144 ?_
    refine z_iload_n X 4 dX13_runThrees_145 rfl ?_
    refine z_iload X 7 dX13_runThrees_146 rfl ?_
    refine z_isub X dX13_runThrees_148 ?_
    refine z_iconst X 1 dX13_runThrees_149 ?_
    refine clm_endsOpen X K rfl h (Nat.le_of_ble_eq_true rfl) dX13_runThrees_150 (fun r4 σ3 h => ?_)
    obtain ⟨b4, h⟩ := h
    have h := h b4
    refine z_if_eq X 187 dX13_runThrees_153 rfl (InR_b b4) (fun c6 => ?_) (fun c6 => ?_)
    · have h := h.1 c6
      refine z_iincK X K 6 (lv' := [(5, .int (iz (v5 + 1))), (8, .int (iz t0)), (0, .ref (ad 0)), (1, .int (iz v1)), (2, .int (iz v2)), (3, .int (iz v3)), (4, .int (iz v4)), (7, .int (iz v7))]) dX13_runThrees_187 rfl rfl rfl ?_
      refine z_goto (tgt := 6) X dX13_runThrees_190 rfl ?_
      exact z_sub [2, 3, 4, 5, 6, 0] rfl (hC6 _ _ _ _ _ _ h)
    · have h := h.2 c6
      exact z_sub [1, 2, 3, 6, 0] rfl (wkm_runThrees_156 X K hR _ _ _ _ _ h)
set_option maxRecDepth 100000 in
theorem wkm_runThrees_132 {Γ : ZG} {l : Launch} {D : va_G} {cr : List vw_C} {ds : Nat → ClassId} {ad : Nat → Nat} {post : Int → ZS → Prop} (X : ZX Γ cX13_runThrees RX13 5 97) (K : ZCap Γ l (ΘM D cr ds ad) 9 0 0) (hR : ZRetI Γ cX13_runThrees .int 0 0 post) {C6 : Int × Int × Int × Int × Int × ZS → Prop} (hC6 : ∀ (v1 : Int) (v2 : Int) (v3 : Int) (v4 : Int) (v5 : Int) (σ : ZS), C6 (v1, v2, v3, v4, v5, σ) → Z Γ 0 0 σ [] 6 [(0, .ref (ad 0)), (1, .int (iz v1)), (2, .int (iz v2)), (3, .int (iz v3)), (4, .int (iz v4)), (5, .int (iz v5))] []) (v1 : Int) (v2 : Int) (v3 : Int) (v4 : Int) (v5 : Int) (v7 : Int) (σ : ZS) (h : wm_runThrees_132 C6 post v1 v2 v3 v4 v5 v7 σ) : Z Γ 0 0 σ [] 132 [(0, .ref (ad 0)), (1, .int (iz v1)), (2, .int (iz v2)), (3, .int (iz v3)), (4, .int (iz v4)), (5, .int (iz v5)), (7, .int (iz v7))] [] := by
  refine z_iconst X 0 dX13_runThrees_132 ?_
  exact z_sub [0, 1, 2, 3, 4, 5, 6] rfl (wkm_runThrees_133 X K hR hC6 _ _ _ _ _ _ _ _ h)
set_option maxRecDepth 100000 in
theorem wkm_runThrees_92 {Γ : ZG} {l : Launch} {D : va_G} {cr : List vw_C} {ds : Nat → ClassId} {ad : Nat → Nat} {post : Int → ZS → Prop} (X : ZX Γ cX13_runThrees RX13 5 97) (K : ZCap Γ l (ΘM D cr ds ad) 9 0 0) (hR : ZRetI Γ cX13_runThrees .int 0 0 post) {C6 : Int × Int × Int × Int × Int × ZS → Prop} (hC6 : ∀ (v1 : Int) (v2 : Int) (v3 : Int) (v4 : Int) (v5 : Int) (σ : ZS), C6 (v1, v2, v3, v4, v5, σ) → Z Γ 0 0 σ [] 6 [(0, .ref (ad 0)), (1, .int (iz v1)), (2, .int (iz v2)), (3, .int (iz v3)), (4, .int (iz v4)), (5, .int (iz v5))] []) (v1 : Int) (v2 : Int) (v3 : Int) (v4 : Int) (v5 : Int) (v7 : Int) (σ : ZS) (h : wm_runThrees_92 C6 post v1 v2 v3 v4 v5 v7 σ) : Z Γ 0 0 σ [] 92 [(0, .ref (ad 0)), (1, .int (iz v1)), (2, .int (iz v2)), (3, .int (iz v3)), (4, .int (iz v4)), (5, .int (iz v5)), (7, .int (iz v7))] [] := by
  refine z_iload_n X 3 dX13_runThrees_92 rfl ?_
  refine z_iload X 6 dX13_runThrees_93 rfl ?_
  refine z_isub X dX13_runThrees_95 ?_
  refine z_iconst X 1 dX13_runThrees_96 ?_
  refine z_isub X dX13_runThrees_97 ?_
  refine z_iconst X 1 dX13_runThrees_98 ?_
  refine z_aload_n X 0 dX13_runThrees_99 rfl ?_
  refine gM_47 X K dX13_runThrees_100 ?_
  refine z_isub X dX13_runThrees_103 ?_
  obtain ⟨i1, h⟩ := h
  obtain ⟨i2, h⟩ := h
  refine z_icmp_lt X 132 dX13_runThrees_104 rfl i1 i2 (fun c3 => ?_) (fun c3 => ?_)
  · have h := h.1 c3
    exact z_sub [0, 1, 2, 3, 4, 5, 6] rfl (wkm_runThrees_132 X K hR hC6 _ _ _ _ _ _ _ h)
  · have h := h.2 c3
    refine z_aload_n X 0 dX13_runThrees_107 rfl ?_
    refine z_aload_n X 0 dX13_runThrees_108 rfl ?_
    refine gM_49 X K dX13_runThrees_109 ?_
    refine z_iload_n X 2 dX13_runThrees_112 rfl ?_
    refine z_iload X 5 dX13_runThrees_113 rfl ?_
    refine z_iadd X dX13_runThrees_115 ?_
    refine z_iload_n X 3 dX13_runThrees_116 rfl ?_
    refine z_iload X 6 dX13_runThrees_117 rfl ?_
    refine z_isub X dX13_runThrees_119 ?_
    refine z_iconst X 1 dX13_runThrees_120 ?_
    refine z_isub X dX13_runThrees_121 ?_
    refine clm_has X K rfl h (Nat.le_of_ble_eq_true rfl) dX13_runThrees_122 (fun r5 σ4 h => ?_)
    obtain ⟨b5, h⟩ := h
    have h := h b5
    refine z_if_eq X 132 dX13_runThrees_125 rfl (InR_b b5) (fun c7 => ?_) (fun c7 => ?_)
    · have h := h.1 c7
      exact z_sub [0, 1, 2, 3, 4, 5, 6] rfl (wkm_runThrees_132 X K hR hC6 _ _ _ _ _ _ _ h)
    · have h := h.2 c7
      refine z_iconst X 1 dX13_runThrees_128 ?_
      refine z_goto (tgt := 133) X dX13_runThrees_129 rfl ?_
      exact z_sub [0, 1, 2, 3, 4, 5, 6] rfl (wkm_runThrees_133 X K hR hC6 _ _ _ _ _ _ _ _ h)
set_option maxRecDepth 100000 in
theorem wkm_runThrees_6 {Γ : ZG} {l : Launch} {D : va_G} {cr : List vw_C} {ds : Nat → ClassId} {ad : Nat → Nat} {post : Int → ZS → Prop} (X : ZX Γ cX13_runThrees RX13 5 97) (K : ZCap Γ l (ΘM D cr ds ad) 9 0 0) (hR : ZRetI Γ cX13_runThrees .int 0 0 post) : ∀ (N : Nat) (v1 : Int) (v2 : Int) (v3 : Int) (v4 : Int) (v5 : Int) (σ : ZS), zfix (wbm_runThrees_6 post) N (v1, v2, v3, v4, v5, σ) → Z Γ 0 0 σ [] 6 [(0, .ref (ad 0)), (1, .int (iz v1)), (2, .int (iz v2)), (3, .int (iz v3)), (4, .int (iz v4)), (5, .int (iz v5))] [] := by
  intro N
  induction N with
  | zero => intro v1 v2 v3 v4 v5 σ h; exact False.elim h
  | succ N ih =>
    intro v1 v2 v3 v4 v5 σ h
    have h : wbm_runThrees_6 post (zfix (wbm_runThrees_6 post) N) (v1, v2, v3, v4, v5, σ) := h
    have hC6 := ih
    clear ih
    generalize zfix (wbm_runThrees_6 post) N = C6 at h hC6
    dsimp only [wbm_runThrees_6] at h
    refine z_iload X 5 dX13_runThrees_6 rfl ?_
    refine z_aload_n X 0 dX13_runThrees_8 rfl ?_
    refine gM_11 X K dX13_runThrees_9 ?_
    refine z_iload_n X 2 dX13_runThrees_12 rfl ?_
    refine z_isub X dX13_runThrees_13 ?_
    obtain ⟨i1, h⟩ := h
    obtain ⟨i2, h⟩ := h
    refine z_icmp_gt X 193 dX13_runThrees_14 rfl i1 i2 (fun c3 => ?_) (fun c3 => ?_)
    · have h := h.1 c3
      refine z_iconst X 0 dX13_runThrees_193 ?_
      exact hR _ _ _ _ _ _ _ dX13_runThrees_194 rfl (Nat.le_refl 0) (Nat.le_refl 0) h
    · have h := h.2 c3
      refine z_aload_n X 0 dX13_runThrees_17 rfl ?_
      refine z_iload_n X 1 dX13_runThrees_18 rfl ?_
      refine z_aload_n X 0 dX13_runThrees_19 rfl ?_
      refine gM_9 X K dX13_runThrees_20 ?_
      refine z_iload_n X 2 dX13_runThrees_23 rfl ?_
      refine z_iload X 5 dX13_runThrees_24 rfl ?_
      refine z_iadd X dX13_runThrees_26 ?_
      refine z_iconst X 1 dX13_runThrees_27 ?_
      refine z_isub X dX13_runThrees_28 ?_
      obtain ⟨x4, h⟩ := h
      refine aM_9 X K dX13_runThrees_29 x4 ?_
      refine clm_spell X K rfl h (Nat.le_of_ble_eq_true rfl) dX13_runThrees_30 (fun r6 σ5 h => ?_)
      refine z_istoreK X K (lv' := [(6, .int (iz r6)), (0, .ref (ad 0)), (1, .int (iz v1)), (2, .int (iz v2)), (3, .int (iz v3)), (4, .int (iz v4)), (5, .int (iz v5))]) dX13_runThrees_33 rfl rfl ?_
      refine z_iload X 5 dX13_runThrees_35 rfl ?_
      refine z_iload X 0 dX13_runThrees_37 rfl ?_
      refine z_iadd X dX13_runThrees_39 ?_
      refine z_topi (fun v4_7 ev4_7 => ?_)
      have h := h v4_7 ev4_7
      refine z_istoreK X K (lv' := [(4, .int (iz v4_7)), (6, .int (iz r6)), (0, .ref (ad 0)), (1, .int (iz v1)), (2, .int (iz v2)), (3, .int (iz v3)), (5, .int (iz v5))]) dX13_runThrees_40 rfl rfl ?_
      refine z_iconst X 1 dX13_runThrees_42 ?_
      refine z_iconst X 2 dX13_runThrees_43 ?_
      refine z_iload X 0 dX13_runThrees_44 rfl ?_
      refine z_iconst X 1 dX13_runThrees_46 ?_
      refine z_iadd X dX13_runThrees_47 ?_
      refine z_iconst X 3 dX13_runThrees_48 ?_
      obtain ⟨i8, h⟩ := h
      obtain ⟨g9, h⟩ := h
      refine z_idiv X dX13_runThrees_49 ⟨i8, (by decide), g9, (by decide)⟩ ?_
      refine z_imul X dX13_runThrees_50 ?_
      refine z_iadd X dX13_runThrees_51 ?_
      refine z_topi (fun v7_10 ev7_10 => ?_)
      have h := h v7_10 ev7_10
      refine z_istoreK X K (lv' := [(7, .int (iz v7_10)), (4, .int (iz v4_7)), (6, .int (iz r6)), (0, .ref (ad 0)), (1, .int (iz v1)), (2, .int (iz v2)), (3, .int (iz v3)), (5, .int (iz v5))]) dX13_runThrees_52 rfl rfl ?_
      refine z_iload X 2 dX13_runThrees_54 rfl ?_
      obtain ⟨i11, h⟩ := h
      refine z_if_eq X 65 dX13_runThrees_56 rfl i11 (fun c12 => ?_) (fun c12 => ?_)
      · have h := h.1 c12
        refine z_iconst X 0 dX13_runThrees_65 ?_
        exact hR _ _ _ _ _ _ _ dX13_runThrees_66 rfl (Nat.le_refl 0) (Nat.le_refl 0) h
      · have h := h.2 c12
        refine z_iload X 0 dX13_runThrees_59 rfl ?_
        refine z_iload_n X 6 dX13_runThrees_61 rfl ?_
        obtain ⟨i13, h⟩ := h
        obtain ⟨i14, h⟩ := h
        refine z_icmp_le X 67 dX13_runThrees_62 rfl i13 i14 (fun c15 => ?_) (fun c15 => ?_)
        · have h := h.1 c15
          refine z_iload X 1 dX13_runThrees_67 rfl ?_
          refine z_iconst X 3 dX13_runThrees_69 ?_
          obtain ⟨i16, h⟩ := h
          obtain ⟨g17, h⟩ := h
          refine z_irem X dX13_runThrees_70 ⟨i16, (by decide), g17, (by decide)⟩ ?_
          refine z_iconst X 1 dX13_runThrees_71 ?_
          obtain ⟨i18, h⟩ := h
          refine z_icmp_eq X 187 dX13_runThrees_72 rfl i18 (by decide) (fun c19 => ?_) (fun c19 => ?_)
          · have h := h.1 c19
            refine z_iincK X K 7 (lv' := [(5, .int (iz (v5 + 1))), (7, .int (iz v7_10)), (4, .int (iz v4_7)), (6, .int (iz r6)), (0, .ref (ad 0)), (1, .int (iz v1)), (2, .int (iz v2)), (3, .int (iz v3))]) dX13_runThrees_187 rfl rfl rfl ?_
            refine z_goto (tgt := 6) X dX13_runThrees_190 rfl ?_
            exact z_sub [4, 5, 6, 7, 2, 0] rfl (hC6 _ _ _ _ _ _ h)
          · have h := h.2 c19
            refine z_iload X 1 dX13_runThrees_75 rfl ?_
            refine z_iconst X 3 dX13_runThrees_77 ?_
            refine z_irem X dX13_runThrees_78 ⟨i16, (by decide), g17, (by decide)⟩ ?_
            refine z_iconst X 2 dX13_runThrees_79 ?_
            refine z_icmp_ne X 92 dX13_runThrees_80 rfl i18 (by decide) (fun c20 => ?_) (fun c20 => ?_)
            · have h := h.1 c20
              exact z_sub [3, 4, 5, 6, 1, 7, 0] rfl (wkm_runThrees_92 X K hR hC6 _ _ _ _ _ _ _ h)
            · have h := h.2 c20
              refine z_iload_n X 4 dX13_runThrees_83 rfl ?_
              refine z_bipush X 6 dX13_runThrees_84 rfl ?_
              obtain ⟨i21, h⟩ := h
              refine z_icmp_ne X 92 dX13_runThrees_86 rfl i21 (by decide) (fun c22 => ?_) (fun c22 => ?_)
              · have h := h.1 c22
                exact z_sub [3, 4, 5, 6, 1, 7, 0] rfl (wkm_runThrees_92 X K hR hC6 _ _ _ _ _ _ _ h)
              · have h := h.2 c22
                refine z_goto (tgt := 187) X dX13_runThrees_89 rfl ?_
                refine z_iincK X K 7 (lv' := [(5, .int (iz (v5 + 1))), (7, .int (iz v7_10)), (4, .int (iz v4_7)), (6, .int (iz r6)), (0, .ref (ad 0)), (1, .int (iz v1)), (2, .int (iz v2)), (3, .int (iz v3))]) dX13_runThrees_187 rfl rfl rfl ?_
                refine z_goto (tgt := 6) X dX13_runThrees_190 rfl ?_
                exact z_sub [4, 5, 6, 7, 2, 0] rfl (hC6 _ _ _ _ _ _ h)
        · have h := h.2 c15
          refine z_iconst X 0 dX13_runThrees_65 ?_
          exact hR _ _ _ _ _ _ _ dX13_runThrees_66 rfl (Nat.le_refl 0) (Nat.le_refl 0) h
set_option maxRecDepth 100000 in
theorem mt_runThrees (l : Launch) (D : va_G) (cr : List vw_C) (ds : Nat → ClassId) (ad : Nat → Nat) (a0 : Int) (a1 : Int) (a2 : Int) (σ : ZS) (post : Int → ZS → Prop) (h : wm_runThrees a0 a1 a2 σ post) : ZMetI l (ΘM D cr ds ad) yX13_runThrees cX13_runThrees 9 .int 5 97 0 0 [.ref (ad 0), .int (iz a0), .int (iz a1), .int (iz a2)] σ post := by
  refine ZMetI.of (by decide) (Nat.le_of_ble_eq_true rfl) (fun Γ X K hR => ?_)
  have X : ZX Γ cX13_runThrees RX13 5 97 := X
  refine z_sub [0, 1, 2, 3] (lv' := [(0, .ref (ad 0)), (1, .int (iz a0)), (2, .int (iz a1)), (3, .int (iz a2))]) rfl ?_
  refine z_iconst X 0 dX13_runThrees_0 ?_
  refine z_istoreK X K (lv' := [(4, .int (iz 0)), (0, .ref (ad 0)), (1, .int (iz a0)), (2, .int (iz a1)), (3, .int (iz a2))]) dX13_runThrees_1 rfl rfl ?_
  refine z_iconst X 1 dX13_runThrees_3 ?_
  refine z_istoreK X K (lv' := [(5, .int (iz 1)), (4, .int (iz 0)), (0, .ref (ad 0)), (1, .int (iz a0)), (2, .int (iz a1)), (3, .int (iz a2))]) dX13_runThrees_4 rfl rfl ?_
  obtain ⟨N, h⟩ := h
  exact z_sub [2, 3, 4, 5, 1, 0] rfl (wkm_runThrees_6 X K hR N _ _ _ _ _ _ h)
set_option maxRecDepth 100000 in
theorem clm_runThrees {Γ : ZG} {cc : ByteArray} {fr lo nL pc : Nat} {lv : List (Nat × Value)} {st : List Value} {l : Launch} {D : va_G} {cr : List vw_C} {ds : Nat → ClassId} {ad : Nat → Nat} {a0 : Int} {a1 : Int} {a2 : Int} {σ : ZS} {post : Int → ZS → Prop} (X : ZX Γ cc RX13 fr lo) (K : ZCap Γ l (ΘM D cr ds ad) nL 0 0) (hrm : zroom 6 125 fr lo = true) (h : wm_runThrees a0 a1 a2 σ post) (hst : (st.map fun v => v.category).sum ≤ 8) (d : decode cc pc = .ok (.invokevirtual 393, 3)) (kk : ∀ (r : Int) (σ' : ZS), post r σ' → Z Γ 0 0 σ' [] (pc + 3) lv (.int (iz r) :: st)) : Z Γ 0 0 σ [] pc lv (.int (iz a2) :: .int (iz a1) :: .int (iz a0) :: .ref (ad 0) :: st) :=
  z_callVI' (C := RX13) (q0 := 0) X K (mt_runThrees l D cr ds ad a0 a1 a2 σ post h) (Nat.le_of_ble_eq_true rfl) rfl rfl rfl (lw_V q1701 q1703 qs101 q127 q1704) ⟨rfl, by decide, by decide, rfl⟩ (zroom_of hrm) ⟨Nat.zero_le _, Nat.zero_le _⟩ hst d rfl kk
/- X13_run -/
set_option maxRecDepth 100000 in
theorem mt_run (l : Launch) (D : va_G) (cr : List vw_C) (ds : Nat → ClassId) (ad : Nat → Nat) (a0 : Int) (a1 : Int) (a2 : Int) (σ : ZS) (post : Int → ZS → Prop) (h : wm_run a0 a1 a2 σ post) : ZMetI l (ΘM D cr ds ad) yX13_run cX13_run 4 .int 6 125 0 0 [.ref (ad 0), .int (iz a0), .int (iz a1), .int (iz a2)] σ post := by
  refine ZMetI.of (by decide) (Nat.le_of_ble_eq_true rfl) (fun Γ X K hR => ?_)
  have X : ZX Γ cX13_run RX13 6 125 := X
  refine z_sub [0, 1, 2, 3] (lv' := [(0, .ref (ad 0)), (1, .int (iz a0)), (2, .int (iz a1)), (3, .int (iz a2))]) rfl ?_
  refine z_aload_n X 0 dX13_run_0 rfl ?_
  refine gM_58 X K dX13_run_1 ?_
  obtain ⟨i1, h⟩ := h
  refine z_if_eq X 11 dX13_run_4 rfl i1 (fun c2 => ?_) (fun c2 => ?_)
  · have h := h.1 c2
    refine z_iload_n X 1 dX13_run_11 rfl ?_
    refine z_bipush X 8 dX13_run_12 rfl ?_
    obtain ⟨i3, h⟩ := h
    refine z_icmp_ne X 26 dX13_run_14 rfl i3 (by decide) (fun c4 => ?_) (fun c4 => ?_)
    · have h := h.1 c4
      refine z_iload_n X 1 dX13_run_26 rfl ?_
      refine z_bipush X 7 dX13_run_27 rfl ?_
      refine z_icmp_ne X 41 dX13_run_29 rfl i3 (by decide) (fun c5 => ?_) (fun c5 => ?_)
      · have h := h.1 c5
        refine z_aload_n X 0 dX13_run_41 rfl ?_
        refine z_iload_n X 1 dX13_run_42 rfl ?_
        refine z_iload_n X 2 dX13_run_43 rfl ?_
        refine z_iload_n X 3 dX13_run_44 rfl ?_
        refine clm_runThrees X K rfl h (Nat.le_of_ble_eq_true rfl) dX13_run_45 (fun r7 σ6 h => ?_)
        exact hR _ _ _ _ _ _ _ dX13_run_48 rfl (Nat.le_refl 0) (Nat.le_refl 0) h
      · have h := h.2 c5
        refine z_aload_n X 0 dX13_run_32 rfl ?_
        refine z_iload_n X 2 dX13_run_33 rfl ?_
        refine z_iload_n X 3 dX13_run_34 rfl ?_
        refine clm_runSixes X K rfl h (Nat.le_of_ble_eq_true rfl) dX13_run_35 (fun r9 σ8 h => ?_)
        refine z_goto (tgt := 48) X dX13_run_38 rfl ?_
        exact hR _ _ _ _ _ _ _ dX13_run_48 rfl (Nat.le_refl 0) (Nat.le_refl 0) h
    · have h := h.2 c4
      refine z_aload_n X 0 dX13_run_17 rfl ?_
      refine z_iload_n X 2 dX13_run_18 rfl ?_
      refine z_iload_n X 3 dX13_run_19 rfl ?_
      refine clm_runBase X K rfl h (Nat.le_of_ble_eq_true rfl) dX13_run_20 (fun r11 σ10 h => ?_)
      refine z_goto (tgt := 48) X dX13_run_23 rfl ?_
      exact hR _ _ _ _ _ _ _ dX13_run_48 rfl (Nat.le_refl 0) (Nat.le_refl 0) h
  · have h := h.2 c2
    refine z_iconst X 0 dX13_run_7 ?_
    refine z_goto (tgt := 48) X dX13_run_8 rfl ?_
    exact hR _ _ _ _ _ _ _ dX13_run_48 rfl (Nat.le_refl 0) (Nat.le_refl 0) h
set_option maxRecDepth 100000 in
theorem clm_run {Γ : ZG} {cc : ByteArray} {fr lo nL pc : Nat} {lv : List (Nat × Value)} {st : List Value} {l : Launch} {D : va_G} {cr : List vw_C} {ds : Nat → ClassId} {ad : Nat → Nat} {a0 : Int} {a1 : Int} {a2 : Int} {σ : ZS} {post : Int → ZS → Prop} (X : ZX Γ cc RX13 fr lo) (K : ZCap Γ l (ΘM D cr ds ad) nL 0 0) (hrm : zroom 7 148 fr lo = true) (h : wm_run a0 a1 a2 σ post) (hst : (st.map fun v => v.category).sum ≤ 8) (d : decode cc pc = .ok (.invokevirtual 375, 3)) (kk : ∀ (r : Int) (σ' : ZS), post r σ' → Z Γ 0 0 σ' [] (pc + 3) lv (.int (iz r) :: st)) : Z Γ 0 0 σ [] pc lv (.int (iz a2) :: .int (iz a1) :: .int (iz a0) :: .ref (ad 0) :: st) :=
  z_callVI' (C := RX13) (q0 := 0) X K (mt_run l D cr ds ad a0 a1 a2 σ post h) (Nat.le_of_ble_eq_true rfl) rfl rfl rfl (lw_V q1677 q1679 qs95 q127 q1680) ⟨rfl, by decide, by decide, rfl⟩ (zroom_of hrm) ⟨Nat.zero_le _, Nat.zero_le _⟩ hst d rfl kk
/- X13_build -/
set_option maxRecDepth 100000 in
theorem wkm_build_134 {Γ : ZG} {l : Launch} {D : va_G} {cr : List vw_C} {ds : Nat → ClassId} {ad : Nat → Nat} {post : ZS → Prop} (X : ZX Γ cX13_build RX13 7 148) (K : ZCap Γ l (ΘM D cr ds ad) 7 0 0) (hR : ZRetV Γ cX13_build 0 0 post) {C19 : Int × Int × ZS → Prop} (hC19 : ∀ (v2 : Int) (v3 : Int) (σ : ZS), C19 (v2, v3, σ) → Z Γ 0 0 σ [] 19 [(0, .ref (ad 0)), (2, .int (iz v2)), (3, .int (iz v3))] []) (v2 : Int) (t0 : Int) (t1 : Int) (σ : ZS) (h : wm_build_134 C19 post v2 t0 t1 σ) : Z Γ 0 0 σ [] 134 [(0, .ref (ad 0)), (2, .int (iz v2))] [.int (iz t0), .int (iz t1)] := by
  refine z_iadd X dX13_build_134 ?_
  refine z_topi (fun v3_1 ev3_1 => ?_)
  have h := h v3_1 ev3_1
  refine z_istore_nK X K (lv' := [(3, .int (iz v3_1)), (0, .ref (ad 0)), (2, .int (iz v2))]) dX13_build_135 rfl rfl ?_
  refine z_goto (tgt := 19) X dX13_build_136 rfl ?_
  exact z_sub [1, 2, 0] rfl (hC19 _ _ _ h)
set_option maxRecDepth 100000 in
theorem wkm_build_93 {Γ : ZG} {l : Launch} {D : va_G} {cr : List vw_C} {ds : Nat → ClassId} {ad : Nat → Nat} {post : ZS → Prop} (X : ZX Γ cX13_build RX13 7 148) (K : ZCap Γ l (ΘM D cr ds ad) 7 0 0) (hR : ZRetV Γ cX13_build 0 0 post) {C19 : Int × Int × ZS → Prop} (hC19 : ∀ (v2 : Int) (v3 : Int) (σ : ZS), C19 (v2, v3, σ) → Z Γ 0 0 σ [] 19 [(0, .ref (ad 0)), (2, .int (iz v2)), (3, .int (iz v3))] []) (v2 : Int) (v3 : Int) (v4 : Int) (v5 : Int) (v6 : Int) (σ : ZS) (h : wm_build_93 C19 post v2 v3 v4 v5 v6 σ) : Z Γ 0 0 σ [] 93 [(0, .ref (ad 0)), (2, .int (iz v2)), (3, .int (iz v3)), (4, .int (iz v4)), (5, .int (iz v5)), (6, .int (iz v6))] [] := by
  refine z_aload_n X 0 dX13_build_93 rfl ?_
  refine z_iload X 5 dX13_build_94 rfl ?_
  refine z_iload_n X 2 dX13_build_96 rfl ?_
  refine z_iload X 4 dX13_build_97 rfl ?_
  refine z_aload_n X 0 dX13_build_99 rfl ?_
  refine gM_59 X K dX13_build_100 ?_
  refine z_iload X 3 dX13_build_103 rfl ?_
  refine z_isub X dX13_build_105 ?_
  refine clm_note X K rfl h (Nat.le_of_ble_eq_true rfl) dX13_build_106 (fun σ1 h => ?_)
  refine z_iload_n X 1 dX13_build_109 rfl ?_
  refine z_aload_n X 0 dX13_build_110 rfl ?_
  refine gM_59 X K dX13_build_111 ?_
  refine z_iload X 3 dX13_build_114 rfl ?_
  refine z_isub X dX13_build_116 ?_
  refine z_isub X dX13_build_117 ?_
  refine z_topi (fun v2_2 ev2_2 => ?_)
  have h := h v2_2 ev2_2
  refine z_istore_nK X K (lv' := [(2, .int (iz v2_2)), (0, .ref (ad 0)), (3, .int (iz v3)), (4, .int (iz v4)), (5, .int (iz v5)), (6, .int (iz v6))]) dX13_build_118 rfl rfl ?_
  refine z_iload_n X 2 dX13_build_119 rfl ?_
  refine z_iload X 4 dX13_build_120 rfl ?_
  obtain ⟨i3, h⟩ := h
  refine z_if_ne X 132 dX13_build_122 rfl i3 (fun c4 => ?_) (fun c4 => ?_)
  · have h := h.1 c4
    refine z_iload X 4 dX13_build_132 rfl ?_
    exact z_sub [1, 0] rfl (wkm_build_134 X K hR hC19 _ _ _ _ h)
  · have h := h.2 c4
    refine z_aload_n X 1 dX13_build_125 rfl ?_
    refine gM_11 X K dX13_build_126 ?_
    refine z_goto (tgt := 134) X dX13_build_129 rfl ?_
    exact z_sub [1, 0] rfl (wkm_build_134 X K hR hC19 _ _ _ _ h)
set_option maxRecDepth 100000 in
theorem wkm_build_87 {Γ : ZG} {l : Launch} {D : va_G} {cr : List vw_C} {ds : Nat → ClassId} {ad : Nat → Nat} {post : ZS → Prop} (X : ZX Γ cX13_build RX13 7 148) (K : ZCap Γ l (ΘM D cr ds ad) 7 0 0) (hR : ZRetV Γ cX13_build 0 0 post) {C19 : Int × Int × ZS → Prop} (hC19 : ∀ (v2 : Int) (v3 : Int) (σ : ZS), C19 (v2, v3, σ) → Z Γ 0 0 σ [] 19 [(0, .ref (ad 0)), (2, .int (iz v2)), (3, .int (iz v3))] []) {C53 : Int × Int × Int × Int × Int × ZS → Prop} (hC53 : ∀ (v2 : Int) (v3 : Int) (v4 : Int) (v5 : Int) (v6 : Int) (σ : ZS), C53 (v2, v3, v4, v5, v6, σ) → Z Γ 0 0 σ [] 53 [(0, .ref (ad 0)), (2, .int (iz v2)), (3, .int (iz v3)), (4, .int (iz v4)), (5, .int (iz v5)), (6, .int (iz v6))] []) (v2 : Int) (v3 : Int) (v4 : Int) (v5 : Int) (t0 : Int) (t1 : Int) (σ : ZS) (h : wm_build_87 C19 C53 post v2 v3 v4 v5 t0 t1 σ) : Z Γ 0 0 σ [] 87 [(0, .ref (ad 0)), (2, .int (iz v2)), (3, .int (iz v3)), (4, .int (iz v4)), (5, .int (iz v5))] [.int (iz t0), .int (iz t1)] := by
  refine z_iadd X dX13_build_87 ?_
  refine z_topi (fun v6_1 ev6_1 => ?_)
  have h := h v6_1 ev6_1
  refine z_istoreK X K (lv' := [(6, .int (iz v6_1)), (0, .ref (ad 0)), (2, .int (iz v2)), (3, .int (iz v3)), (4, .int (iz v4)), (5, .int (iz v5))]) dX13_build_88 rfl rfl ?_
  refine z_goto (tgt := 53) X dX13_build_90 rfl ?_
  exact z_sub [1, 2, 3, 4, 5, 0] rfl (hC53 _ _ _ _ _ _ h)
set_option maxRecDepth 100000 in
theorem wkm_build_53 {Γ : ZG} {l : Launch} {D : va_G} {cr : List vw_C} {ds : Nat → ClassId} {ad : Nat → Nat} {post : ZS → Prop} (X : ZX Γ cX13_build RX13 7 148) (K : ZCap Γ l (ΘM D cr ds ad) 7 0 0) (hR : ZRetV Γ cX13_build 0 0 post) {C19 : Int × Int × ZS → Prop} (hC19 : ∀ (v2 : Int) (v3 : Int) (σ : ZS), C19 (v2, v3, σ) → Z Γ 0 0 σ [] 19 [(0, .ref (ad 0)), (2, .int (iz v2)), (3, .int (iz v3))] []) : ∀ (N : Nat) (v2 : Int) (v3 : Int) (v4 : Int) (v5 : Int) (v6 : Int) (σ : ZS), zfix (wbm_build_53 C19 post) N (v2, v3, v4, v5, v6, σ) → Z Γ 0 0 σ [] 53 [(0, .ref (ad 0)), (2, .int (iz v2)), (3, .int (iz v3)), (4, .int (iz v4)), (5, .int (iz v5)), (6, .int (iz v6))] [] := by
  intro N
  induction N with
  | zero => intro v2 v3 v4 v5 v6 σ h; exact False.elim h
  | succ N ih =>
    intro v2 v3 v4 v5 v6 σ h
    have h : wbm_build_53 C19 post (zfix (wbm_build_53 C19 post) N) (v2, v3, v4, v5, v6, σ) := h
    have hC53 := ih
    clear ih
    generalize zfix (wbm_build_53 C19 post) N = C53 at h hC53
    dsimp only [wbm_build_53] at h
    refine z_iload X 4 dX13_build_53 rfl ?_
    obtain ⟨i1, h⟩ := h
    refine z_if_ne X 93 dX13_build_55 rfl i1 (fun c2 => ?_) (fun c2 => ?_)
    · have h := h.1 c2
      exact z_sub [0, 1, 2, 3, 4, 5] rfl (wkm_build_93 X K hR hC19 _ _ _ _ _ _ h)
    · have h := h.2 c2
      refine z_iload X 5 dX13_build_58 rfl ?_
      refine z_bipush X 8 dX13_build_60 rfl ?_
      obtain ⟨i3, h⟩ := h
      refine z_icmp_gt X 93 dX13_build_62 rfl i3 (by decide) (fun c4 => ?_) (fun c4 => ?_)
      · have h := h.1 c4
        exact z_sub [0, 1, 2, 3, 4, 5] rfl (wkm_build_93 X K hR hC19 _ _ _ _ _ _ h)
      · have h := h.2 c4
        refine z_aload_n X 0 dX13_build_65 rfl ?_
        refine z_iload X 5 dX13_build_66 rfl ?_
        refine z_iload_n X 2 dX13_build_68 rfl ?_
        refine z_iload_n X 1 dX13_build_69 rfl ?_
        refine clm_run X K rfl h (Nat.le_of_ble_eq_true rfl) dX13_build_70 (fun r6 σ5 h => ?_)
        refine z_istoreK X K (lv' := [(5, .int (iz r6)), (0, .ref (ad 0)), (2, .int (iz v2)), (3, .int (iz v3)), (4, .int (iz v4)), (6, .int (iz v6))]) dX13_build_73 rfl rfl ?_
        refine z_iload X 5 dX13_build_75 rfl ?_
        refine z_iload X 0 dX13_build_77 rfl ?_
        obtain ⟨i7, h⟩ := h
        refine z_if_ne X 86 dX13_build_79 rfl i7 (fun c8 => ?_) (fun c8 => ?_)
        · have h := h.1 c8
          refine z_iconst X 0 dX13_build_86 ?_
          exact z_sub [1, 2, 3, 4, 0] rfl (wkm_build_87 X K hR hC19 hC53 _ _ _ _ _ _ _ h)
        · have h := h.2 c8
          refine z_iconst X 1 dX13_build_82 ?_
          refine z_goto (tgt := 87) X dX13_build_83 rfl ?_
          exact z_sub [1, 2, 3, 4, 0] rfl (wkm_build_87 X K hR hC19 hC53 _ _ _ _ _ _ _ h)
set_option maxRecDepth 100000 in
theorem wkm_build_51 {Γ : ZG} {l : Launch} {D : va_G} {cr : List vw_C} {ds : Nat → ClassId} {ad : Nat → Nat} {post : ZS → Prop} (X : ZX Γ cX13_build RX13 7 148) (K : ZCap Γ l (ΘM D cr ds ad) 7 0 0) (hR : ZRetV Γ cX13_build 0 0 post) {C19 : Int × Int × ZS → Prop} (hC19 : ∀ (v2 : Int) (v3 : Int) (σ : ZS), C19 (v2, v3, σ) → Z Γ 0 0 σ [] 19 [(0, .ref (ad 0)), (2, .int (iz v2)), (3, .int (iz v3))] []) (v2 : Int) (v3 : Int) (v4 : Int) (v5 : Int) (t0 : Int) (σ : ZS) (h : wm_build_51 C19 post v2 v3 v4 v5 t0 σ) : Z Γ 0 0 σ [] 51 [(0, .ref (ad 0)), (2, .int (iz v2)), (3, .int (iz v3)), (4, .int (iz v4)), (5, .int (iz v5))] [.int (iz t0)] := by
  refine z_istoreK X K (lv' := [(6, .int (iz t0)), (0, .ref (ad 0)), (2, .int (iz v2)), (3, .int (iz v3)), (4, .int (iz v4)), (5, .int (iz v5))]) dX13_build_51 rfl rfl ?_
  obtain ⟨N, h⟩ := h
  exact z_sub [1, 2, 3, 4, 5, 0] rfl (wkm_build_53 X K hR hC19 N _ _ _ _ _ _ h)
set_option maxRecDepth 100000 in
theorem wkm_build_19 {Γ : ZG} {l : Launch} {D : va_G} {cr : List vw_C} {ds : Nat → ClassId} {ad : Nat → Nat} {post : ZS → Prop} (X : ZX Γ cX13_build RX13 7 148) (K : ZCap Γ l (ΘM D cr ds ad) 7 0 0) (hR : ZRetV Γ cX13_build 0 0 post) : ∀ (N : Nat) (v2 : Int) (v3 : Int) (σ : ZS), zfix (wbm_build_19 post) N (v2, v3, σ) → Z Γ 0 0 σ [] 19 [(0, .ref (ad 0)), (2, .int (iz v2)), (3, .int (iz v3))] [] := by
  intro N
  induction N with
  | zero => intro v2 v3 σ h; exact False.elim h
  | succ N ih =>
    intro v2 v3 σ h
    have h : wbm_build_19 post (zfix (wbm_build_19 post) N) (v2, v3, σ) := h
    have hC19 := ih
    clear ih
    generalize zfix (wbm_build_19 post) N = C19 at h hC19
    dsimp only [wbm_build_19] at h
    refine z_iload_n X 2 dX13_build_19 rfl ?_
    refine z_aload_n X 0 dX13_build_20 rfl ?_
    refine gM_11 X K dX13_build_21 ?_
    obtain ⟨i1, h⟩ := h
    obtain ⟨i2, h⟩ := h
    refine z_icmp_ge X 139 dX13_build_24 rfl i1 i2 (fun c3 => ?_) (fun c3 => ?_)
    · have h := h.1 c3
      exact hR _ _ _ _ _ _ dX13_build_139 (Nat.le_refl 0) (Nat.le_refl 0) h
    · have h := h.2 c3
      refine z_aload_n X 0 dX13_build_27 rfl ?_
      refine gM_59 X K dX13_build_28 ?_
      refine z_topi (fun v4_4 ev4_4 => ?_)
      have h := h v4_4 ev4_4
      refine z_istoreK X K (lv' := [(4, .int (iz v4_4)), (0, .ref (ad 0)), (2, .int (iz v2)), (3, .int (iz v3))]) dX13_build_31 rfl rfl ?_
      refine z_aload_n X 1 dX13_build_33 rfl ?_
      refine z_iload_n X 3 dX13_build_34 rfl ?_
      refine z_iload_n X 2 dX13_build_35 rfl ?_
      refine clm_oneOfAscii X K rfl h (Nat.le_of_ble_eq_true rfl) dX13_build_36 (fun r6 σ5 h => ?_)
      refine z_istoreK X K (lv' := [(5, .int (iz r6)), (4, .int (iz v4_4)), (0, .ref (ad 0)), (2, .int (iz v2)), (3, .int (iz v3))]) dX13_build_39 rfl rfl ?_
      refine z_iload X 0 dX13_build_41 rfl ?_
      obtain ⟨i7, h⟩ := h
      refine z_if_le X 50 dX13_build_43 rfl i7 (fun c8 => ?_) (fun c8 => ?_)
      · have h := h.1 c8
        refine z_iconst X 4 dX13_build_50 ?_
        exact z_sub [2, 3, 4, 1, 0] rfl (wkm_build_51 X K hR hC19 _ _ _ _ _ _ h)
      · have h := h.2 c8
        refine z_iconst X 0 dX13_build_46 ?_
        refine z_goto (tgt := 51) X dX13_build_47 rfl ?_
        exact z_sub [2, 3, 4, 1, 0] rfl (wkm_build_51 X K hR hC19 _ _ _ _ _ _ h)
set_option maxRecDepth 100000 in
theorem mt_build (l : Launch) (D : va_G) (cr : List vw_C) (ds : Nat → ClassId) (ad : Nat → Nat) (a0 : Int) (σ : ZS) (post : ZS → Prop) (h : wm_build a0 σ post) : ZMetV l (ΘM D cr ds ad) yX13_build cX13_build 7 7 148 0 0 [.ref (ad 0), .int (iz a0)] σ post := by
  refine ZMetV.of (by decide) (Nat.le_of_ble_eq_true rfl) (fun Γ X K hR => ?_)
  have X : ZX Γ cX13_build RX13 7 148 := X
  refine z_sub [0, 1] (lv' := [(0, .ref (ad 0)), (1, .int (iz a0))]) rfl ?_
  refine z_iload_n X 1 dX13_build_0 rfl ?_
  refine z_istore_nK X K (lv' := [(2, .int (iz a0)), (0, .ref (ad 0)), (1, .int (iz a0))]) dX13_build_1 rfl rfl ?_
  refine z_iconst X 0 dX13_build_2 ?_
  refine z_istore_nK X K (lv' := [(3, .int (iz 0)), (2, .int (iz a0)), (0, .ref (ad 0)), (1, .int (iz a0))]) dX13_build_3 rfl rfl ?_
  refine z_aload_n X 2 dX13_build_4 rfl ?_
  refine z_iconst X 0 dX13_build_5 ?_
  refine pM_59 X K dX13_build_6 (fun σ1 eσ1 => ?_)
  have h := h σ1 eσ1
  refine z_aload_n X 2 dX13_build_9 rfl ?_
  refine z_iconst X 0 dX13_build_10 ?_
  refine pM_53 X K dX13_build_11 (fun σ2 eσ2 => ?_)
  have h := h σ2 eσ2
  refine z_aload_n X 2 dX13_build_14 rfl ?_
  refine z_iconst X 0 dX13_build_15 ?_
  refine pM_58 X K (Or.inl rfl) dX13_build_16 (fun σ3 eσ3 => ?_)
  have h := h σ3 eσ3
  obtain ⟨N, h⟩ := h
  exact z_sub [2, 1, 0] rfl (wkm_build_19 X K hR N _ _ _ h)
set_option maxRecDepth 100000 in
theorem clm_build {Γ : ZG} {cc : ByteArray} {fr lo nL pc : Nat} {lv : List (Nat × Value)} {st : List Value} {l : Launch} {D : va_G} {cr : List vw_C} {ds : Nat → ClassId} {ad : Nat → Nat} {a0 : Int} {σ : ZS} {post : ZS → Prop} (X : ZX Γ cc RX13 fr lo) (K : ZCap Γ l (ΘM D cr ds ad) nL 0 0) (hrm : zroom 8 174 fr lo = true) (h : wm_build a0 σ post) (hst : (st.map fun v => v.category).sum ≤ 8) (d : decode cc pc = .ok (.invokevirtual 427, 3)) (kk : ∀ (σ' : ZS), post σ' → Z Γ 0 0 σ' [] (pc + 3) lv (st)) : Z Γ 0 0 σ [] pc lv (.int (iz a0) :: .ref (ad 0) :: st) :=
  z_callVV' (C := RX13) (q0 := 0) X K (mt_build l D cr ds ad a0 σ post h) (Nat.le_of_ble_eq_true rfl) rfl rfl rfl (lw_V q1661 q1663 qs91 q127 q1664) ⟨rfl, by decide, by decide, rfl⟩ (zroom_of hrm) ⟨Nat.zero_le _, Nat.zero_le _⟩ hst d rfl kk
/- X13_makeDivisor -/
set_option maxRecDepth 100000 in
theorem wkm_makeDivisor_37 {Γ : ZG} {l : Launch} {D : va_G} {cr : List vw_C} {ds : Nat → ClassId} {ad : Nat → Nat} {post : ZS → Prop} (X : ZX Γ cX13_makeDivisor RX13 2 22) (K : ZCap Γ l (ΘM D cr ds ad) 4 0 0) (hR : ZRetV Γ cX13_makeDivisor 0 0 post) {C30 : Int × Int × ZS → Prop} (hC30 : ∀ (v1 : Int) (v2 : Int) (σ : ZS), C30 (v1, v2, σ) → Z Γ 0 0 σ [] 30 [(0, .ref (ad 0)), (1, .int (iz v1)), (2, .int (iz v2))] []) : ∀ (N : Nat) (v1 : Int) (v2 : Int) (v3 : Int) (σ : ZS), zfix (wbm_makeDivisor_37 C30 post) N (v1, v2, v3, σ) → Z Γ 0 0 σ [] 37 [(0, .ref (ad 0)), (1, .int (iz v1)), (2, .int (iz v2)), (3, .int (iz v3))] [] := by
  intro N
  induction N with
  | zero => intro v1 v2 v3 σ h; exact False.elim h
  | succ N ih =>
    intro v1 v2 v3 σ h
    have h : wbm_makeDivisor_37 C30 post (zfix (wbm_makeDivisor_37 C30 post) N) (v1, v2, v3, σ) := h
    have hC37 := ih
    clear ih
    generalize zfix (wbm_makeDivisor_37 C30 post) N = C37 at h hC37
    dsimp only [wbm_makeDivisor_37] at h
    refine z_iload_n X 3 dX13_makeDivisor_37 rfl ?_
    obtain ⟨i1, h⟩ := h
    refine z_if_le X 78 dX13_makeDivisor_38 rfl i1 (fun c2 => ?_) (fun c2 => ?_)
    · have h := h.1 c2
      refine z_iincK X K 2 (lv' := [(2, .int (iz (v2 + 1))), (0, .ref (ad 0)), (1, .int (iz v1)), (3, .int (iz v3))]) dX13_makeDivisor_78 rfl rfl rfl ?_
      refine z_goto (tgt := 30) X dX13_makeDivisor_81 rfl ?_
      exact z_sub [1, 2, 0] rfl (hC30 _ _ _ h)
    · have h := h.2 c2
      refine z_aload_n X 0 dX13_makeDivisor_41 rfl ?_
      refine gM_21 X K dX13_makeDivisor_42 ?_
      refine z_iload_n X 3 dX13_makeDivisor_45 rfl ?_
      refine z_aload_n X 0 dX13_makeDivisor_46 rfl ?_
      refine gM_21 X K dX13_makeDivisor_47 ?_
      refine z_iload_n X 3 dX13_makeDivisor_50 rfl ?_
      obtain ⟨x3, h⟩ := h
      refine aM_14 X K dX13_makeDivisor_51 x3 ?_
      refine z_aload_n X 0 dX13_makeDivisor_52 rfl ?_
      refine z_aload_n X 0 dX13_makeDivisor_53 rfl ?_
      refine gM_21 X K dX13_makeDivisor_54 ?_
      refine z_iload_n X 3 dX13_makeDivisor_57 rfl ?_
      refine z_iconst X 1 dX13_makeDivisor_58 ?_
      refine z_isub X dX13_makeDivisor_59 ?_
      obtain ⟨x4, h⟩ := h
      refine aM_14 X K dX13_makeDivisor_60 x4 ?_
      refine z_aload_n X 0 dX13_makeDivisor_61 rfl ?_
      refine gM_7 X K dX13_makeDivisor_62 ?_
      refine z_iload_n X 2 dX13_makeDivisor_65 rfl ?_
      obtain ⟨x5, h⟩ := h
      refine aM_7 X K dX13_makeDivisor_66 x5 ?_
      refine clm_product X K rfl h (Nat.le_of_ble_eq_true rfl) dX13_makeDivisor_67 (fun r7 σ6 h => ?_)
      refine z_ixor X dX13_makeDivisor_70 ?_
      refine sM_14 X K dX13_makeDivisor_71 x3 (fun σ8 eσ8 => ?_)
      have h := h σ8 eσ8
      refine z_iincK X K 3 (lv' := [(3, .int (iz (v3 + (-1)))), (0, .ref (ad 0)), (1, .int (iz v1)), (2, .int (iz v2))]) dX13_makeDivisor_72 rfl rfl rfl ?_
      refine z_goto (tgt := 37) X dX13_makeDivisor_75 rfl ?_
      exact z_sub [1, 2, 3, 0] rfl (hC37 _ _ _ _ h)
set_option maxRecDepth 100000 in
theorem wkm_makeDivisor_30 {Γ : ZG} {l : Launch} {D : va_G} {cr : List vw_C} {ds : Nat → ClassId} {ad : Nat → Nat} {post : ZS → Prop} (X : ZX Γ cX13_makeDivisor RX13 2 22) (K : ZCap Γ l (ΘM D cr ds ad) 4 0 0) (hR : ZRetV Γ cX13_makeDivisor 0 0 post) : ∀ (N : Nat) (v1 : Int) (v2 : Int) (σ : ZS), zfix (wbm_makeDivisor_30 post) N (v1, v2, σ) → Z Γ 0 0 σ [] 30 [(0, .ref (ad 0)), (1, .int (iz v1)), (2, .int (iz v2))] [] := by
  intro N
  induction N with
  | zero => intro v1 v2 σ h; exact False.elim h
  | succ N ih =>
    intro v1 v2 σ h
    have h : wbm_makeDivisor_30 post (zfix (wbm_makeDivisor_30 post) N) (v1, v2, σ) := h
    have hC30 := ih
    clear ih
    generalize zfix (wbm_makeDivisor_30 post) N = C30 at h hC30
    dsimp only [wbm_makeDivisor_30] at h
    refine z_iload_n X 2 dX13_makeDivisor_30 rfl ?_
    refine z_iload_n X 1 dX13_makeDivisor_31 rfl ?_
    obtain ⟨i1, h⟩ := h
    obtain ⟨i2, h⟩ := h
    refine z_icmp_gt X 84 dX13_makeDivisor_32 rfl i1 i2 (fun c3 => ?_) (fun c3 => ?_)
    · have h := h.1 c3
      exact hR _ _ _ _ _ _ dX13_makeDivisor_84 (Nat.le_refl 0) (Nat.le_refl 0) h
    · have h := h.2 c3
      refine z_iload_n X 2 dX13_makeDivisor_35 rfl ?_
      refine z_istore_nK X K (lv' := [(3, .int (iz v2)), (0, .ref (ad 0)), (1, .int (iz v1)), (2, .int (iz v2))]) dX13_makeDivisor_36 rfl rfl ?_
      obtain ⟨N, h⟩ := h
      exact z_sub [1, 2, 3, 0] rfl (wkm_makeDivisor_37 X K hR hC30 N _ _ _ _ h)
set_option maxRecDepth 100000 in
theorem wkm_makeDivisor_21 {Γ : ZG} {l : Launch} {D : va_G} {cr : List vw_C} {ds : Nat → ClassId} {ad : Nat → Nat} {post : ZS → Prop} (X : ZX Γ cX13_makeDivisor RX13 2 22) (K : ZCap Γ l (ΘM D cr ds ad) 4 0 0) (hR : ZRetV Γ cX13_makeDivisor 0 0 post) {C2 : Int × Int × ZS → Prop} (hC2 : ∀ (v1 : Int) (v2 : Int) (σ : ZS), C2 (v1, v2, σ) → Z Γ 0 0 σ [] 2 [(0, .ref (ad 0)), (1, .int (iz v1)), (2, .int (iz v2))] []) (v1 : Int) (v2 : Int) (t0 : Int) (t1 : Int) (σ : ZS) (h : wm_makeDivisor_21 C2 post v1 v2 t0 t1 σ) : Z Γ 0 0 σ [] 21 [(0, .ref (ad 0)), (1, .int (iz v1)), (2, .int (iz v2))] [.int (iz t0), .int (iz t1), .ref (ad 14)] := by
  obtain ⟨x1, h⟩ := h
  refine sM_14 X K dX13_makeDivisor_21 x1 (fun σ2 eσ2 => ?_)
  have h := h σ2 eσ2
  refine z_iincK X K 2 (lv' := [(2, .int (iz (v2 + 1))), (0, .ref (ad 0)), (1, .int (iz v1))]) dX13_makeDivisor_22 rfl rfl rfl ?_
  refine z_goto (tgt := 2) X dX13_makeDivisor_25 rfl ?_
  exact z_sub [1, 2, 0] rfl (hC2 _ _ _ h)
set_option maxRecDepth 100000 in
theorem wkm_makeDivisor_2 {Γ : ZG} {l : Launch} {D : va_G} {cr : List vw_C} {ds : Nat → ClassId} {ad : Nat → Nat} {post : ZS → Prop} (X : ZX Γ cX13_makeDivisor RX13 2 22) (K : ZCap Γ l (ΘM D cr ds ad) 4 0 0) (hR : ZRetV Γ cX13_makeDivisor 0 0 post) : ∀ (N : Nat) (v1 : Int) (v2 : Int) (σ : ZS), zfix (wbm_makeDivisor_2 post) N (v1, v2, σ) → Z Γ 0 0 σ [] 2 [(0, .ref (ad 0)), (1, .int (iz v1)), (2, .int (iz v2))] [] := by
  intro N
  induction N with
  | zero => intro v1 v2 σ h; exact False.elim h
  | succ N ih =>
    intro v1 v2 σ h
    have h : wbm_makeDivisor_2 post (zfix (wbm_makeDivisor_2 post) N) (v1, v2, σ) := h
    have hC2 := ih
    clear ih
    generalize zfix (wbm_makeDivisor_2 post) N = C2 at h hC2
    dsimp only [wbm_makeDivisor_2] at h
    refine z_iload_n X 2 dX13_makeDivisor_2 rfl ?_
    refine z_iload_n X 1 dX13_makeDivisor_3 rfl ?_
    obtain ⟨i1, h⟩ := h
    obtain ⟨i2, h⟩ := h
    refine z_icmp_gt X 28 dX13_makeDivisor_4 rfl i1 i2 (fun c3 => ?_) (fun c3 => ?_)
    · have h := h.1 c3
      refine z_iconst X 1 dX13_makeDivisor_28 ?_
      refine z_istore_nK X K (lv' := [(2, .int (iz 1)), (0, .ref (ad 0)), (1, .int (iz v1))]) dX13_makeDivisor_29 rfl rfl ?_
      obtain ⟨N, h⟩ := h
      exact z_sub [1, 2, 0] rfl (wkm_makeDivisor_30 X K hR N _ _ _ h)
    · have h := h.2 c3
      refine z_aload_n X 0 dX13_makeDivisor_7 rfl ?_
      refine gM_21 X K dX13_makeDivisor_8 ?_
      refine z_iload_n X 2 dX13_makeDivisor_11 rfl ?_
      refine z_iload_n X 2 dX13_makeDivisor_12 rfl ?_
      refine z_if_ne X 20 dX13_makeDivisor_13 rfl i1 (fun c4 => ?_) (fun c4 => ?_)
      · have h := h.1 c4
        refine z_iconst X 0 dX13_makeDivisor_20 ?_
        exact z_sub [0, 1, 2] rfl (wkm_makeDivisor_21 X K hR hC2 _ _ _ _ _ h)
      · have h := h.2 c4
        refine z_iconst X 1 dX13_makeDivisor_16 ?_
        refine z_goto (tgt := 21) X dX13_makeDivisor_17 rfl ?_
        exact z_sub [0, 1, 2] rfl (wkm_makeDivisor_21 X K hR hC2 _ _ _ _ _ h)
set_option maxRecDepth 100000 in
theorem mt_makeDivisor (l : Launch) (D : va_G) (cr : List vw_C) (ds : Nat → ClassId) (ad : Nat → Nat) (a0 : Int) (σ : ZS) (post : ZS → Prop) (h : wm_makeDivisor a0 σ post) : ZMetV l (ΘM D cr ds ad) yX13_makeDivisor cX13_makeDivisor 4 2 22 0 0 [.ref (ad 0), .int (iz a0)] σ post := by
  refine ZMetV.of (by decide) (Nat.le_of_ble_eq_true rfl) (fun Γ X K hR => ?_)
  have X : ZX Γ cX13_makeDivisor RX13 2 22 := X
  refine z_sub [0, 1] (lv' := [(0, .ref (ad 0)), (1, .int (iz a0))]) rfl ?_
  refine z_iconst X 0 dX13_makeDivisor_0 ?_
  refine z_istore_nK X K (lv' := [(2, .int (iz 0)), (0, .ref (ad 0)), (1, .int (iz a0))]) dX13_makeDivisor_1 rfl rfl ?_
  obtain ⟨N, h⟩ := h
  exact z_sub [1, 2, 0] rfl (wkm_makeDivisor_2 X K hR N _ _ _ h)
set_option maxRecDepth 100000 in
theorem clm_makeDivisor {Γ : ZG} {cc : ByteArray} {fr lo nL pc : Nat} {lv : List (Nat × Value)} {st : List Value} {l : Launch} {D : va_G} {cr : List vw_C} {ds : Nat → ClassId} {ad : Nat → Nat} {a0 : Int} {σ : ZS} {post : ZS → Prop} (X : ZX Γ cc RX13 fr lo) (K : ZCap Γ l (ΘM D cr ds ad) nL 0 0) (hrm : zroom 3 45 fr lo = true) (h : wm_makeDivisor a0 σ post) (hst : (st.map fun v => v.category).sum ≤ 8) (d : decode cc pc = .ok (.invokevirtual 201, 3)) (kk : ∀ (σ' : ZS), post σ' → Z Γ 0 0 σ' [] (pc + 3) lv (st)) : Z Γ 0 0 σ [] pc lv (.int (iz a0) :: .ref (ad 0) :: st) :=
  z_callVV' (C := RX13) (q0 := 0) X K (mt_makeDivisor l D cr ds ad a0 σ post h) (Nat.le_of_ble_eq_true rfl) rfl rfl rfl (lw_V q1717 q1719 qs105 q127 q1720) ⟨rfl, by decide, by decide, rfl⟩ (zroom_of hrm) ⟨Nat.zero_le _, Nat.zero_le _⟩ hst d rfl kk
/- X13_check -/
set_option maxRecDepth 100000 in
theorem wkm_check_201 {Γ : ZG} {l : Launch} {D : va_G} {cr : List vw_C} {ds : Nat → ClassId} {ad : Nat → Nat} {post : ZS → Prop} (X : ZX Γ cX13_check RX13 4 63) (K : ZCap Γ l (ΘM D cr ds ad) 10 0 0) (hR : ZRetV Γ cX13_check 0 0 post) {C23 : Int × Int × Int × Int × ZS → Prop} (hC23 : ∀ (v2 : Int) (v3 : Int) (v4 : Int) (v5 : Int) (σ : ZS), C23 (v2, v3, v4, v5, σ) → Z Γ 0 0 σ [] 23 [(0, .ref (ad 0)), (2, .int (iz v2)), (3, .int (iz v3)), (4, .int (iz v4)), (5, .int (iz v5))] []) : ∀ (N : Nat) (v2 : Int) (v3 : Int) (v4 : Int) (v5 : Int) (v7 : Int) (v8 : Int) (σ : ZS), zfix (wbm_check_201 C23 post) N (v2, v3, v4, v5, v7, v8, σ) → Z Γ 0 0 σ [] 201 [(0, .ref (ad 0)), (2, .int (iz v2)), (3, .int (iz v3)), (4, .int (iz v4)), (5, .int (iz v5)), (7, .int (iz v7)), (8, .int (iz v8))] [] := by
  intro N
  induction N with
  | zero => intro v2 v3 v4 v5 v7 v8 σ h; exact False.elim h
  | succ N ih =>
    intro v2 v3 v4 v5 v7 v8 σ h
    have h : wbm_check_201 C23 post (zfix (wbm_check_201 C23 post) N) (v2, v3, v4, v5, v7, v8, σ) := h
    have hC201 := ih
    clear ih
    generalize zfix (wbm_check_201 C23 post) N = C201 at h hC201
    dsimp only [wbm_check_201] at h
    refine z_iload X 6 dX13_check_201 rfl ?_
    refine z_iload_n X 2 dX13_check_203 rfl ?_
    obtain ⟨i1, h⟩ := h
    obtain ⟨i2, h⟩ := h
    refine z_icmp_ge X 240 dX13_check_204 rfl i1 i2 (fun c3 => ?_) (fun c3 => ?_)
    · have h := h.1 c3
      refine z_iincK X K 4 (lv' := [(5, .int (iz (v5 + 1))), (0, .ref (ad 0)), (2, .int (iz v2)), (3, .int (iz v3)), (4, .int (iz v4)), (7, .int (iz v7)), (8, .int (iz v8))]) dX13_check_240 rfl rfl rfl ?_
      refine z_goto (tgt := 23) X dX13_check_243 rfl ?_
      exact z_sub [1, 2, 3, 4, 0] rfl (hC23 _ _ _ _ _ h)
    · have h := h.2 c3
      refine z_iload X 6 dX13_check_207 rfl ?_
      refine z_iload X 3 dX13_check_209 rfl ?_
      obtain ⟨g4, h⟩ := h
      obtain ⟨i5, h⟩ := h
      obtain ⟨g6, h⟩ := h
      refine z_irem X dX13_check_211 ⟨i1, i5, g4, g6⟩ ?_
      refine z_iload X 4 dX13_check_212 rfl ?_
      obtain ⟨i7, h⟩ := h
      obtain ⟨i8, h⟩ := h
      refine z_icmp_ne X 234 dX13_check_214 rfl i7 i8 (fun c9 => ?_) (fun c9 => ?_)
      · have h := h.1 c9
        refine z_iincK X K 6 (lv' := [(8, .int (iz (v8 + 1))), (0, .ref (ad 0)), (2, .int (iz v2)), (3, .int (iz v3)), (4, .int (iz v4)), (5, .int (iz v5)), (7, .int (iz v7))]) dX13_check_234 rfl rfl rfl ?_
        refine z_goto (tgt := 201) X dX13_check_237 rfl ?_
        exact z_sub [1, 2, 3, 4, 5, 6, 0] rfl (hC201 _ _ _ _ _ _ _ h)
      · have h := h.2 c9
        refine z_aload_n X 0 dX13_check_217 rfl ?_
        refine gM_20 X K dX13_check_218 ?_
        refine z_iload X 6 dX13_check_221 rfl ?_
        refine z_aload_n X 0 dX13_check_223 rfl ?_
        refine gM_22 X K dX13_check_224 ?_
        refine z_iload X 5 dX13_check_227 rfl ?_
        obtain ⟨x10, h⟩ := h
        refine aM_15 X K dX13_check_229 x10 ?_
        obtain ⟨x11, h⟩ := h
        refine sM_13 X K dX13_check_230 x11 (fun σ12 eσ12 => ?_)
        have h := h σ12 eσ12
        refine z_iincK X K 5 (lv' := [(7, .int (iz (v7 + 1))), (0, .ref (ad 0)), (2, .int (iz v2)), (3, .int (iz v3)), (4, .int (iz v4)), (5, .int (iz v5)), (8, .int (iz v8))]) dX13_check_231 rfl rfl rfl ?_
        refine z_iincK X K 6 (lv' := [(8, .int (iz (v8 + 1))), (7, .int (iz (v7 + 1))), (0, .ref (ad 0)), (2, .int (iz v2)), (3, .int (iz v3)), (4, .int (iz v4)), (5, .int (iz v5))]) dX13_check_234 rfl rfl rfl ?_
        refine z_goto (tgt := 201) X dX13_check_237 rfl ?_
        exact z_sub [2, 3, 4, 5, 6, 1, 0] rfl (hC201 _ _ _ _ _ _ _ h)
set_option maxRecDepth 100000 in
theorem wkm_check_162 {Γ : ZG} {l : Launch} {D : va_G} {cr : List vw_C} {ds : Nat → ClassId} {ad : Nat → Nat} {post : ZS → Prop} (X : ZX Γ cX13_check RX13 4 63) (K : ZCap Γ l (ΘM D cr ds ad) 10 0 0) (hR : ZRetV Γ cX13_check 0 0 post) {C23 : Int × Int × Int × Int × ZS → Prop} (hC23 : ∀ (v2 : Int) (v3 : Int) (v4 : Int) (v5 : Int) (σ : ZS), C23 (v2, v3, v4, v5, σ) → Z Γ 0 0 σ [] 23 [(0, .ref (ad 0)), (2, .int (iz v2)), (3, .int (iz v3)), (4, .int (iz v4)), (5, .int (iz v5))] []) {C102 : Int × Int × Int × Int × Int × Int × ZS → Prop} (hC102 : ∀ (v2 : Int) (v3 : Int) (v4 : Int) (v5 : Int) (v6 : Int) (v7 : Int) (σ : ZS), C102 (v2, v3, v4, v5, v6, v7, σ) → Z Γ 0 0 σ [] 102 [(0, .ref (ad 0)), (2, .int (iz v2)), (3, .int (iz v3)), (4, .int (iz v4)), (5, .int (iz v5)), (6, .int (iz v6)), (7, .int (iz v7))] []) {C127 : Int × Int × Int × Int × Int × Int × Int × Int × ZS → Prop} (hC127 : ∀ (v2 : Int) (v3 : Int) (v4 : Int) (v5 : Int) (v6 : Int) (v7 : Int) (v8 : Int) (v9 : Int) (σ : ZS), C127 (v2, v3, v4, v5, v6, v7, v8, v9, σ) → Z Γ 0 0 σ [] 127 [(0, .ref (ad 0)), (2, .int (iz v2)), (3, .int (iz v3)), (4, .int (iz v4)), (5, .int (iz v5)), (6, .int (iz v6)), (7, .int (iz v7)), (8, .int (iz v8)), (9, .int (iz v9))] []) (v2 : Int) (v3 : Int) (v4 : Int) (v5 : Int) (v6 : Int) (v7 : Int) (v8 : Int) (v9 : Int) (t0 : Int) (t1 : Int) (σ : ZS) (h : wm_check_162 C23 C102 C127 post v2 v3 v4 v5 v6 v7 v8 v9 t0 t1 σ) : Z Γ 0 0 σ [] 162 [(0, .ref (ad 0)), (2, .int (iz v2)), (3, .int (iz v3)), (4, .int (iz v4)), (5, .int (iz v5)), (6, .int (iz v6)), (7, .int (iz v7)), (8, .int (iz v8)), (9, .int (iz v9))] [.int (iz t0), .int (iz t1), .ref (ad 15)] := by
  refine z_aload_n X 0 dX13_check_162 rfl ?_
  refine z_iload X 7 dX13_check_163 rfl ?_
  refine z_aload_n X 0 dX13_check_165 rfl ?_
  refine gM_21 X K dX13_check_166 ?_
  refine z_iload X 8 dX13_check_169 rfl ?_
  refine z_iconst X 1 dX13_check_171 ?_
  refine z_iadd X dX13_check_172 ?_
  obtain ⟨x1, h⟩ := h
  refine aM_14 X K dX13_check_173 x1 ?_
  refine clm_product X K rfl h (Nat.le_of_ble_eq_true rfl) dX13_check_174 (fun r3 σ2 h => ?_)
  refine z_ixor X dX13_check_177 ?_
  obtain ⟨x4, h⟩ := h
  refine sM_15 X K dX13_check_178 x4 (fun σ5 eσ5 => ?_)
  have h := h σ5 eσ5
  refine z_iincK X K 8 (lv' := [(9, .int (iz (v9 + 1))), (0, .ref (ad 0)), (2, .int (iz v2)), (3, .int (iz v3)), (4, .int (iz v4)), (5, .int (iz v5)), (6, .int (iz v6)), (7, .int (iz v7)), (8, .int (iz v8))]) dX13_check_179 rfl rfl rfl ?_
  refine z_goto (tgt := 127) X dX13_check_182 rfl ?_
  exact z_sub [1, 2, 3, 4, 5, 6, 7, 8, 0] rfl (hC127 _ _ _ _ _ _ _ _ _ h)
set_option maxRecDepth 100000 in
theorem wkm_check_127 {Γ : ZG} {l : Launch} {D : va_G} {cr : List vw_C} {ds : Nat → ClassId} {ad : Nat → Nat} {post : ZS → Prop} (X : ZX Γ cX13_check RX13 4 63) (K : ZCap Γ l (ΘM D cr ds ad) 10 0 0) (hR : ZRetV Γ cX13_check 0 0 post) {C23 : Int × Int × Int × Int × ZS → Prop} (hC23 : ∀ (v2 : Int) (v3 : Int) (v4 : Int) (v5 : Int) (σ : ZS), C23 (v2, v3, v4, v5, σ) → Z Γ 0 0 σ [] 23 [(0, .ref (ad 0)), (2, .int (iz v2)), (3, .int (iz v3)), (4, .int (iz v4)), (5, .int (iz v5))] []) {C102 : Int × Int × Int × Int × Int × Int × ZS → Prop} (hC102 : ∀ (v2 : Int) (v3 : Int) (v4 : Int) (v5 : Int) (v6 : Int) (v7 : Int) (σ : ZS), C102 (v2, v3, v4, v5, v6, v7, σ) → Z Γ 0 0 σ [] 102 [(0, .ref (ad 0)), (2, .int (iz v2)), (3, .int (iz v3)), (4, .int (iz v4)), (5, .int (iz v5)), (6, .int (iz v6)), (7, .int (iz v7))] []) : ∀ (N : Nat) (v2 : Int) (v3 : Int) (v4 : Int) (v5 : Int) (v6 : Int) (v7 : Int) (v8 : Int) (v9 : Int) (σ : ZS), zfix (wbm_check_127 C23 C102 post) N (v2, v3, v4, v5, v6, v7, v8, v9, σ) → Z Γ 0 0 σ [] 127 [(0, .ref (ad 0)), (2, .int (iz v2)), (3, .int (iz v3)), (4, .int (iz v4)), (5, .int (iz v5)), (6, .int (iz v6)), (7, .int (iz v7)), (8, .int (iz v8)), (9, .int (iz v9))] [] := by
  intro N
  induction N with
  | zero => intro v2 v3 v4 v5 v6 v7 v8 v9 σ h; exact False.elim h
  | succ N ih =>
    intro v2 v3 v4 v5 v6 v7 v8 v9 σ h
    have h : wbm_check_127 C23 C102 post (zfix (wbm_check_127 C23 C102 post) N) (v2, v3, v4, v5, v6, v7, v8, v9, σ) := h
    have hC127 := ih
    clear ih
    generalize zfix (wbm_check_127 C23 C102 post) N = C127 at h hC127
    dsimp only [wbm_check_127] at h
    refine z_iload X 8 dX13_check_127 rfl ?_
    refine z_iload X 5 dX13_check_129 rfl ?_
    obtain ⟨i1, h⟩ := h
    obtain ⟨i2, h⟩ := h
    refine z_icmp_ge X 185 dX13_check_131 rfl i1 i2 (fun c3 => ?_) (fun c3 => ?_)
    · have h := h.1 c3
      refine z_iload X 6 dX13_check_185 rfl ?_
      refine z_iload X 3 dX13_check_187 rfl ?_
      refine z_iadd X dX13_check_189 ?_
      refine z_topi (fun v7_4 ev7_4 => ?_)
      have h := h v7_4 ev7_4
      refine z_istoreK X K (lv' := [(7, .int (iz v7_4)), (0, .ref (ad 0)), (2, .int (iz v2)), (3, .int (iz v3)), (4, .int (iz v4)), (5, .int (iz v5)), (6, .int (iz v6)), (8, .int (iz v8)), (9, .int (iz v9))]) dX13_check_190 rfl rfl ?_
      refine z_goto (tgt := 102) X dX13_check_192 rfl ?_
      exact z_sub [1, 2, 3, 4, 5, 6, 0] rfl (hC102 _ _ _ _ _ _ _ h)
    · have h := h.2 c3
      refine z_aload_n X 0 dX13_check_134 rfl ?_
      refine gM_22 X K dX13_check_135 ?_
      refine z_iload X 8 dX13_check_138 rfl ?_
      refine z_iload X 8 dX13_check_140 rfl ?_
      refine z_iconst X 1 dX13_check_142 ?_
      refine z_iadd X dX13_check_143 ?_
      refine z_iload X 5 dX13_check_144 rfl ?_
      obtain ⟨i5, h⟩ := h
      refine z_icmp_ge X 161 dX13_check_146 rfl i5 i2 (fun c6 => ?_) (fun c6 => ?_)
      · have h := h.1 c6
        refine z_iconst X 0 dX13_check_161 ?_
        exact z_sub [0, 1, 2, 3, 4, 5, 6, 7, 8] rfl (wkm_check_162 X K hR hC23 hC102 hC127 _ _ _ _ _ _ _ _ _ _ _ h)
      · have h := h.2 c6
        refine z_aload_n X 0 dX13_check_149 rfl ?_
        refine gM_22 X K dX13_check_150 ?_
        refine z_iload X 8 dX13_check_153 rfl ?_
        refine z_iconst X 1 dX13_check_155 ?_
        refine z_iadd X dX13_check_156 ?_
        obtain ⟨x7, h⟩ := h
        refine aM_15 X K dX13_check_157 x7 ?_
        refine z_goto (tgt := 162) X dX13_check_158 rfl ?_
        exact z_sub [0, 1, 2, 3, 4, 5, 6, 7, 8] rfl (wkm_check_162 X K hR hC23 hC102 hC127 _ _ _ _ _ _ _ _ _ _ _ h)
set_option maxRecDepth 100000 in
theorem wkm_check_102 {Γ : ZG} {l : Launch} {D : va_G} {cr : List vw_C} {ds : Nat → ClassId} {ad : Nat → Nat} {post : ZS → Prop} (X : ZX Γ cX13_check RX13 4 63) (K : ZCap Γ l (ΘM D cr ds ad) 10 0 0) (hR : ZRetV Γ cX13_check 0 0 post) {C23 : Int × Int × Int × Int × ZS → Prop} (hC23 : ∀ (v2 : Int) (v3 : Int) (v4 : Int) (v5 : Int) (σ : ZS), C23 (v2, v3, v4, v5, σ) → Z Γ 0 0 σ [] 23 [(0, .ref (ad 0)), (2, .int (iz v2)), (3, .int (iz v3)), (4, .int (iz v4)), (5, .int (iz v5))] []) : ∀ (N : Nat) (v2 : Int) (v3 : Int) (v4 : Int) (v5 : Int) (v6 : Int) (v7 : Int) (σ : ZS), zfix (wbm_check_102 C23 post) N (v2, v3, v4, v5, v6, v7, σ) → Z Γ 0 0 σ [] 102 [(0, .ref (ad 0)), (2, .int (iz v2)), (3, .int (iz v3)), (4, .int (iz v4)), (5, .int (iz v5)), (6, .int (iz v6)), (7, .int (iz v7))] [] := by
  intro N
  induction N with
  | zero => intro v2 v3 v4 v5 v6 v7 σ h; exact False.elim h
  | succ N ih =>
    intro v2 v3 v4 v5 v6 v7 σ h
    have h : wbm_check_102 C23 post (zfix (wbm_check_102 C23 post) N) (v2, v3, v4, v5, v6, v7, σ) := h
    have hC102 := ih
    clear ih
    generalize zfix (wbm_check_102 C23 post) N = C102 at h hC102
    dsimp only [wbm_check_102] at h
    refine z_iload X 6 dX13_check_102 rfl ?_
    refine z_iload_n X 1 dX13_check_104 rfl ?_
    obtain ⟨i1, h⟩ := h
    obtain ⟨i2, h⟩ := h
    refine z_icmp_ge X 195 dX13_check_105 rfl i1 i2 (fun c3 => ?_) (fun c3 => ?_)
    · have h := h.1 c3
      refine z_iconst X 0 dX13_check_195 ?_
      refine z_istoreK X K (lv' := [(7, .int (iz 0)), (0, .ref (ad 0)), (2, .int (iz v2)), (3, .int (iz v3)), (4, .int (iz v4)), (5, .int (iz v5)), (6, .int (iz v6))]) dX13_check_196 rfl rfl ?_
      refine z_iload_n X 2 dX13_check_198 rfl ?_
      refine z_istoreK X K (lv' := [(8, .int (iz v2)), (7, .int (iz 0)), (0, .ref (ad 0)), (2, .int (iz v2)), (3, .int (iz v3)), (4, .int (iz v4)), (5, .int (iz v5)), (6, .int (iz v6))]) dX13_check_199 rfl rfl ?_
      obtain ⟨N, h⟩ := h
      exact z_sub [2, 3, 4, 5, 6, 1, 0] rfl (wkm_check_201 X K hR hC23 N _ _ _ _ _ _ _ h)
    · have h := h.2 c3
      refine z_aload_n X 0 dX13_check_108 rfl ?_
      refine gM_20 X K dX13_check_109 ?_
      refine z_iload X 6 dX13_check_112 rfl ?_
      obtain ⟨x4, h⟩ := h
      refine aM_13 X K dX13_check_114 x4 ?_
      refine z_aload_n X 0 dX13_check_115 rfl ?_
      refine gM_22 X K dX13_check_116 ?_
      refine z_iconst X 0 dX13_check_119 ?_
      refine aM_15 X K dX13_check_120 (by decide) ?_
      refine z_ixor X dX13_check_121 ?_
      refine z_topi (fun v8_5 ev8_5 => ?_)
      have h := h v8_5 ev8_5
      refine z_istoreK X K (lv' := [(8, .int (iz v8_5)), (0, .ref (ad 0)), (2, .int (iz v2)), (3, .int (iz v3)), (4, .int (iz v4)), (5, .int (iz v5)), (6, .int (iz v6)), (7, .int (iz v7))]) dX13_check_122 rfl rfl ?_
      refine z_iconst X 0 dX13_check_124 ?_
      refine z_istoreK X K (lv' := [(9, .int (iz 0)), (8, .int (iz v8_5)), (0, .ref (ad 0)), (2, .int (iz v2)), (3, .int (iz v3)), (4, .int (iz v4)), (5, .int (iz v5)), (6, .int (iz v6)), (7, .int (iz v7))]) dX13_check_125 rfl rfl ?_
      obtain ⟨N, h⟩ := h
      exact z_sub [2, 3, 4, 5, 6, 7, 8, 1, 0] rfl (wkm_check_127 X K hR hC23 hC102 N _ _ _ _ _ _ _ _ _ h)
set_option maxRecDepth 100000 in
theorem wkm_check_77 {Γ : ZG} {l : Launch} {D : va_G} {cr : List vw_C} {ds : Nat → ClassId} {ad : Nat → Nat} {post : ZS → Prop} (X : ZX Γ cX13_check RX13 4 63) (K : ZCap Γ l (ΘM D cr ds ad) 10 0 0) (hR : ZRetV Γ cX13_check 0 0 post) {C23 : Int × Int × Int × Int × ZS → Prop} (hC23 : ∀ (v2 : Int) (v3 : Int) (v4 : Int) (v5 : Int) (σ : ZS), C23 (v2, v3, v4, v5, σ) → Z Γ 0 0 σ [] 23 [(0, .ref (ad 0)), (2, .int (iz v2)), (3, .int (iz v3)), (4, .int (iz v4)), (5, .int (iz v5))] []) : ∀ (N : Nat) (v2 : Int) (v3 : Int) (v4 : Int) (v5 : Int) (v6 : Int) (v7 : Int) (σ : ZS), zfix (wbm_check_77 C23 post) N (v2, v3, v4, v5, v6, v7, σ) → Z Γ 0 0 σ [] 77 [(0, .ref (ad 0)), (2, .int (iz v2)), (3, .int (iz v3)), (4, .int (iz v4)), (5, .int (iz v5)), (6, .int (iz v6)), (7, .int (iz v7))] [] := by
  intro N
  induction N with
  | zero => intro v2 v3 v4 v5 v6 v7 σ h; exact False.elim h
  | succ N ih =>
    intro v2 v3 v4 v5 v6 v7 σ h
    have h : wbm_check_77 C23 post (zfix (wbm_check_77 C23 post) N) (v2, v3, v4, v5, v6, v7, σ) := h
    have hC77 := ih
    clear ih
    generalize zfix (wbm_check_77 C23 post) N = C77 at h hC77
    dsimp only [wbm_check_77] at h
    refine z_iload X 6 dX13_check_77 rfl ?_
    refine z_iload X 5 dX13_check_79 rfl ?_
    obtain ⟨i1, h⟩ := h
    obtain ⟨i2, h⟩ := h
    refine z_icmp_ge X 98 dX13_check_81 rfl i1 i2 (fun c3 => ?_) (fun c3 => ?_)
    · have h := h.1 c3
      refine z_iload X 4 dX13_check_98 rfl ?_
      refine z_istoreK X K (lv' := [(7, .int (iz v5)), (0, .ref (ad 0)), (2, .int (iz v2)), (3, .int (iz v3)), (4, .int (iz v4)), (5, .int (iz v5)), (6, .int (iz v6))]) dX13_check_100 rfl rfl ?_
      obtain ⟨N, h⟩ := h
      exact z_sub [1, 2, 3, 4, 5, 6, 0] rfl (wkm_check_102 X K hR hC23 N _ _ _ _ _ _ _ h)
    · have h := h.2 c3
      refine z_aload_n X 0 dX13_check_84 rfl ?_
      refine gM_22 X K dX13_check_85 ?_
      refine z_iload X 6 dX13_check_88 rfl ?_
      refine z_iconst X 0 dX13_check_90 ?_
      obtain ⟨x4, h⟩ := h
      refine sM_15 X K dX13_check_91 x4 (fun σ5 eσ5 => ?_)
      have h := h σ5 eσ5
      refine z_iincK X K 6 (lv' := [(7, .int (iz (v7 + 1))), (0, .ref (ad 0)), (2, .int (iz v2)), (3, .int (iz v3)), (4, .int (iz v4)), (5, .int (iz v5)), (6, .int (iz v6))]) dX13_check_92 rfl rfl rfl ?_
      refine z_goto (tgt := 77) X dX13_check_95 rfl ?_
      exact z_sub [1, 2, 3, 4, 5, 6, 0] rfl (hC77 _ _ _ _ _ _ _ h)
set_option maxRecDepth 100000 in
theorem wkm_check_59 {Γ : ZG} {l : Launch} {D : va_G} {cr : List vw_C} {ds : Nat → ClassId} {ad : Nat → Nat} {post : ZS → Prop} (X : ZX Γ cX13_check RX13 4 63) (K : ZCap Γ l (ΘM D cr ds ad) 10 0 0) (hR : ZRetV Γ cX13_check 0 0 post) {C23 : Int × Int × Int × Int × ZS → Prop} (hC23 : ∀ (v2 : Int) (v3 : Int) (v4 : Int) (v5 : Int) (σ : ZS), C23 (v2, v3, v4, v5, σ) → Z Γ 0 0 σ [] 23 [(0, .ref (ad 0)), (2, .int (iz v2)), (3, .int (iz v3)), (4, .int (iz v4)), (5, .int (iz v5))] []) {C36 : Int × Int × Int × Int × Int × Int × ZS → Prop} (hC36 : ∀ (v2 : Int) (v3 : Int) (v4 : Int) (v5 : Int) (v6 : Int) (v7 : Int) (σ : ZS), C36 (v2, v3, v4, v5, v6, v7, σ) → Z Γ 0 0 σ [] 36 [(0, .ref (ad 0)), (2, .int (iz v2)), (3, .int (iz v3)), (4, .int (iz v4)), (5, .int (iz v5)), (6, .int (iz v6)), (7, .int (iz v7))] []) (v2 : Int) (v3 : Int) (v4 : Int) (v5 : Int) (v7 : Int) (t0 : Int) (t1 : Int) (σ : ZS) (h : wm_check_59 C23 C36 post v2 v3 v4 v5 v7 t0 t1 σ) : Z Γ 0 0 σ [] 59 [(0, .ref (ad 0)), (2, .int (iz v2)), (3, .int (iz v3)), (4, .int (iz v4)), (5, .int (iz v5)), (7, .int (iz v7))] [.int (iz t0), .int (iz t1)] := by
  refine z_iadd X dX13_check_59 ?_
  refine z_topi (fun v6_1 ev6_1 => ?_)
  have h := h v6_1 ev6_1
  refine z_istoreK X K (lv' := [(6, .int (iz v6_1)), (0, .ref (ad 0)), (2, .int (iz v2)), (3, .int (iz v3)), (4, .int (iz v4)), (5, .int (iz v5)), (7, .int (iz v7))]) dX13_check_60 rfl rfl ?_
  refine z_iincK X K 6 (lv' := [(7, .int (iz (v7 + 1))), (6, .int (iz v6_1)), (0, .ref (ad 0)), (2, .int (iz v2)), (3, .int (iz v3)), (4, .int (iz v4)), (5, .int (iz v5))]) dX13_check_62 rfl rfl rfl ?_
  refine z_goto (tgt := 36) X dX13_check_65 rfl ?_
  exact z_sub [2, 3, 4, 5, 6, 1, 0] rfl (hC36 _ _ _ _ _ _ _ h)
set_option maxRecDepth 100000 in
theorem wkm_check_36 {Γ : ZG} {l : Launch} {D : va_G} {cr : List vw_C} {ds : Nat → ClassId} {ad : Nat → Nat} {post : ZS → Prop} (X : ZX Γ cX13_check RX13 4 63) (K : ZCap Γ l (ΘM D cr ds ad) 10 0 0) (hR : ZRetV Γ cX13_check 0 0 post) {C23 : Int × Int × Int × Int × ZS → Prop} (hC23 : ∀ (v2 : Int) (v3 : Int) (v4 : Int) (v5 : Int) (σ : ZS), C23 (v2, v3, v4, v5, σ) → Z Γ 0 0 σ [] 23 [(0, .ref (ad 0)), (2, .int (iz v2)), (3, .int (iz v3)), (4, .int (iz v4)), (5, .int (iz v5))] []) : ∀ (N : Nat) (v2 : Int) (v3 : Int) (v4 : Int) (v5 : Int) (v6 : Int) (v7 : Int) (σ : ZS), zfix (wbm_check_36 C23 post) N (v2, v3, v4, v5, v6, v7, σ) → Z Γ 0 0 σ [] 36 [(0, .ref (ad 0)), (2, .int (iz v2)), (3, .int (iz v3)), (4, .int (iz v4)), (5, .int (iz v5)), (6, .int (iz v6)), (7, .int (iz v7))] [] := by
  intro N
  induction N with
  | zero => intro v2 v3 v4 v5 v6 v7 σ h; exact False.elim h
  | succ N ih =>
    intro v2 v3 v4 v5 v6 v7 σ h
    have h : wbm_check_36 C23 post (zfix (wbm_check_36 C23 post) N) (v2, v3, v4, v5, v6, v7, σ) := h
    have hC36 := ih
    clear ih
    generalize zfix (wbm_check_36 C23 post) N = C36 at h hC36
    dsimp only [wbm_check_36] at h
    refine z_iload X 6 dX13_check_36 rfl ?_
    refine z_iload_n X 2 dX13_check_38 rfl ?_
    obtain ⟨i1, h⟩ := h
    obtain ⟨i2, h⟩ := h
    refine z_icmp_ge X 68 dX13_check_39 rfl i1 i2 (fun c3 => ?_) (fun c3 => ?_)
    · have h := h.1 c3
      refine z_aload_n X 0 dX13_check_68 rfl ?_
      refine z_iload X 5 dX13_check_69 rfl ?_
      refine clm_makeDivisor X K rfl h (Nat.le_of_ble_eq_true rfl) dX13_check_71 (fun σ4 h => ?_)
      refine z_iconst X 0 dX13_check_74 ?_
      refine z_istoreK X K (lv' := [(7, .int (iz 0)), (0, .ref (ad 0)), (2, .int (iz v2)), (3, .int (iz v3)), (4, .int (iz v4)), (5, .int (iz v5)), (6, .int (iz v6))]) dX13_check_75 rfl rfl ?_
      obtain ⟨N, h⟩ := h
      exact z_sub [1, 2, 3, 4, 5, 6, 0] rfl (wkm_check_77 X K hR hC23 N _ _ _ _ _ _ _ h)
    · have h := h.2 c3
      refine z_iload X 5 dX13_check_42 rfl ?_
      refine z_iload X 6 dX13_check_44 rfl ?_
      refine z_iload X 3 dX13_check_46 rfl ?_
      obtain ⟨g5, h⟩ := h
      obtain ⟨i6, h⟩ := h
      obtain ⟨g7, h⟩ := h
      refine z_irem X dX13_check_48 ⟨i1, i6, g5, g7⟩ ?_
      refine z_iload X 4 dX13_check_49 rfl ?_
      obtain ⟨i8, h⟩ := h
      obtain ⟨i9, h⟩ := h
      refine z_icmp_ne X 58 dX13_check_51 rfl i8 i9 (fun c10 => ?_) (fun c10 => ?_)
      · have h := h.1 c10
        refine z_iconst X 0 dX13_check_58 ?_
        exact z_sub [0, 1, 2, 3, 4, 6] rfl (wkm_check_59 X K hR hC23 hC36 _ _ _ _ _ _ _ _ h)
      · have h := h.2 c10
        refine z_iconst X 1 dX13_check_54 ?_
        refine z_goto (tgt := 59) X dX13_check_55 rfl ?_
        exact z_sub [0, 1, 2, 3, 4, 6] rfl (wkm_check_59 X K hR hC23 hC36 _ _ _ _ _ _ _ _ h)
set_option maxRecDepth 100000 in
theorem wkm_check_23 {Γ : ZG} {l : Launch} {D : va_G} {cr : List vw_C} {ds : Nat → ClassId} {ad : Nat → Nat} {post : ZS → Prop} (X : ZX Γ cX13_check RX13 4 63) (K : ZCap Γ l (ΘM D cr ds ad) 10 0 0) (hR : ZRetV Γ cX13_check 0 0 post) : ∀ (N : Nat) (v2 : Int) (v3 : Int) (v4 : Int) (v5 : Int) (σ : ZS), zfix (wbm_check_23 post) N (v2, v3, v4, v5, σ) → Z Γ 0 0 σ [] 23 [(0, .ref (ad 0)), (2, .int (iz v2)), (3, .int (iz v3)), (4, .int (iz v4)), (5, .int (iz v5))] [] := by
  intro N
  induction N with
  | zero => intro v2 v3 v4 v5 σ h; exact False.elim h
  | succ N ih =>
    intro v2 v3 v4 v5 σ h
    have h : wbm_check_23 post (zfix (wbm_check_23 post) N) (v2, v3, v4, v5, σ) := h
    have hC23 := ih
    clear ih
    generalize zfix (wbm_check_23 post) N = C23 at h hC23
    dsimp only [wbm_check_23] at h
    refine z_iload X 4 dX13_check_23 rfl ?_
    refine z_iload X 3 dX13_check_25 rfl ?_
    obtain ⟨i1, h⟩ := h
    obtain ⟨i2, h⟩ := h
    refine z_icmp_ge X 246 dX13_check_27 rfl i1 i2 (fun c3 => ?_) (fun c3 => ?_)
    · have h := h.1 c3
      exact hR _ _ _ _ _ _ dX13_check_246 (Nat.le_refl 0) (Nat.le_refl 0) h
    · have h := h.2 c3
      refine z_iconst X 0 dX13_check_30 ?_
      refine z_istoreK X K (lv' := [(6, .int (iz 0)), (0, .ref (ad 0)), (2, .int (iz v2)), (3, .int (iz v3)), (4, .int (iz v4)), (5, .int (iz v5))]) dX13_check_31 rfl rfl ?_
      refine z_iload_n X 2 dX13_check_33 rfl ?_
      refine z_istoreK X K (lv' := [(7, .int (iz v2)), (6, .int (iz 0)), (0, .ref (ad 0)), (2, .int (iz v2)), (3, .int (iz v3)), (4, .int (iz v4)), (5, .int (iz v5))]) dX13_check_34 rfl rfl ?_
      obtain ⟨N, h⟩ := h
      exact z_sub [2, 3, 4, 5, 6, 1, 0] rfl (wkm_check_36 X K hR hC23 N _ _ _ _ _ _ _ h)
set_option maxRecDepth 100000 in
theorem mt_check (l : Launch) (D : va_G) (cr : List vw_C) (ds : Nat → ClassId) (ad : Nat → Nat) (a0 : Int) (σ : ZS) (post : ZS → Prop) (h : wm_check a0 σ post) : ZMetV l (ΘM D cr ds ad) yX13_check cX13_check 10 4 63 0 0 [.ref (ad 0), .int (iz a0)] σ post := by
  refine ZMetV.of (by decide) (Nat.le_of_ble_eq_true rfl) (fun Γ X K hR => ?_)
  have X : ZX Γ cX13_check RX13 4 63 := X
  refine z_sub [0, 1] (lv' := [(0, .ref (ad 0)), (1, .int (iz a0))]) rfl ?_
  refine z_aload_n X 0 dX13_check_0 rfl ?_
  refine z_iload_n X 1 dX13_check_1 rfl ?_
  refine clm_dataOf X K rfl h (Nat.le_of_ble_eq_true rfl) dX13_check_2 (fun r2 σ1 h => ?_)
  refine z_istore_nK X K (lv' := [(2, .int (iz r2)), (0, .ref (ad 0)), (1, .int (iz a0))]) dX13_check_5 rfl rfl ?_
  refine z_aload_n X 1 dX13_check_6 rfl ?_
  refine z_iload_n X 2 dX13_check_7 rfl ?_
  refine clm_allOf X K rfl h (Nat.le_of_ble_eq_true rfl) dX13_check_8 (fun r4 σ3 h => ?_)
  refine z_istore_nK X K (lv' := [(3, .int (iz r4)), (2, .int (iz r2)), (0, .ref (ad 0)), (1, .int (iz a0))]) dX13_check_11 rfl rfl ?_
  refine z_aload_n X 2 dX13_check_12 rfl ?_
  refine gM_4 X K dX13_check_13 ?_
  refine z_iload_n X 3 dX13_check_16 rfl ?_
  obtain ⟨x5, h⟩ := h
  refine aM_4 X K dX13_check_17 x5 ?_
  refine z_topi (fun v4_6 ev4_6 => ?_)
  have h := h v4_6 ev4_6
  refine z_istoreK X K (lv' := [(4, .int (iz v4_6)), (3, .int (iz r4)), (2, .int (iz r2)), (0, .ref (ad 0)), (1, .int (iz a0))]) dX13_check_18 rfl rfl ?_
  refine z_iconst X 0 dX13_check_20 ?_
  refine z_istoreK X K (lv' := [(5, .int (iz 0)), (4, .int (iz v4_6)), (3, .int (iz r4)), (2, .int (iz r2)), (0, .ref (ad 0)), (1, .int (iz a0))]) dX13_check_21 rfl rfl ?_
  obtain ⟨N, h⟩ := h
  exact z_sub [4, 3, 2, 1, 0] rfl (wkm_check_23 X K hR N _ _ _ _ _ h)
set_option maxRecDepth 100000 in
theorem clm_check {Γ : ZG} {cc : ByteArray} {fr lo nL pc : Nat} {lv : List (Nat × Value)} {st : List Value} {l : Launch} {D : va_G} {cr : List vw_C} {ds : Nat → ClassId} {ad : Nat → Nat} {a0 : Int} {σ : ZS} {post : ZS → Prop} (X : ZX Γ cc RX13 fr lo) (K : ZCap Γ l (ΘM D cr ds ad) nL 0 0) (hrm : zroom 5 92 fr lo = true) (h : wm_check a0 σ post) (hst : (st.map fun v => v.category).sum ≤ 8) (d : decode cc pc = .ok (.invokevirtual 430, 3)) (kk : ∀ (σ' : ZS), post σ' → Z Γ 0 0 σ' [] (pc + 3) lv (st)) : Z Γ 0 0 σ [] pc lv (.int (iz a0) :: .ref (ad 0) :: st) :=
  z_callVV' (C := RX13) (q0 := 0) X K (mt_check l D cr ds ad a0 σ post h) (Nat.le_of_ble_eq_true rfl) rfl rfl rfl (lw_V q1713 q1715 qs104 q127 q1716) ⟨rfl, by decide, by decide, rfl⟩ (zroom_of hrm) ⟨Nat.zero_le _, Nat.zero_le _⟩ hst d rfl kk
/- X13_draw -/
set_option maxRecDepth 100000 in
theorem wkm_draw_122 {Γ : ZG} {l : Launch} {D : va_G} {cr : List vw_C} {ds : Nat → ClassId} {ad : Nat → Nat} {post : ZS → Prop} (X : ZX Γ cX13_draw RX13 2 25) (K : ZCap Γ l (ΘM D cr ds ad) 9 0 0) (hR : ZRetV Γ cX13_draw 0 0 post) {C31 : Int × Int × Int × Int × ZS → Prop} (hC31 : ∀ (v1 : Int) (v2 : Int) (v3 : Int) (v4 : Int) (σ : ZS), C31 (v1, v2, v3, v4, σ) → Z Γ 0 0 σ [] 31 [(0, .ref (ad 0)), (1, .int (iz v1)), (2, .int (iz v2)), (3, .int (iz v3)), (4, .int (iz v4))] []) {C45 : Int × Int × Int × Int × Int × ZS → Prop} (hC45 : ∀ (v1 : Int) (v2 : Int) (v3 : Int) (v4 : Int) (v5 : Int) (σ : ZS), C45 (v1, v2, v3, v4, v5, σ) → Z Γ 0 0 σ [] 45 [(0, .ref (ad 0)), (1, .int (iz v1)), (2, .int (iz v2)), (3, .int (iz v3)), (4, .int (iz v4)), (5, .int (iz v5))] []) (v1 : Int) (v2 : Int) (v3 : Int) (v4 : Int) (v5 : Int) (t0 : Int) (σ : ZS) (h : wm_draw_122 C31 C45 post v1 v2 v3 v4 v5 t0 σ) : Z Γ 0 0 σ [] 122 [(0, .ref (ad 0)), (1, .int (iz v1)), (2, .int (iz v2)), (3, .int (iz v3)), (4, .int (iz v4)), (5, .int (iz v5))] [.int (iz t0)] := by
  refine z_istoreK X K (lv' := [(8, .int (iz t0)), (0, .ref (ad 0)), (1, .int (iz v1)), (2, .int (iz v2)), (3, .int (iz v3)), (4, .int (iz v4)), (5, .int (iz v5))]) dX13_draw_122 rfl rfl ?_
  refine z_aload_n X 1 dX13_draw_124 rfl ?_
  refine gM_19 X K dX13_draw_125 ?_
  refine z_sipush X 144 dX13_draw_128 rfl ?_
  refine z_iload X 5 dX13_draw_131 rfl ?_
  refine z_imul X dX13_draw_133 ?_
  refine z_iload X 6 dX13_draw_134 rfl ?_
  refine z_iadd X dX13_draw_136 ?_
  refine z_iload X 0 dX13_draw_137 rfl ?_
  obtain ⟨x1, h⟩ := h
  obtain ⟨b3, h⟩ := h
  refine sM_12 X K dX13_draw_139 x1 b3 (fun σ2 eσ2 => ?_)
  have h := h σ2 eσ2
  refine z_iincK X K 6 (lv' := [(5, .int (iz (v5 + 1))), (8, .int (iz t0)), (0, .ref (ad 0)), (1, .int (iz v1)), (2, .int (iz v2)), (3, .int (iz v3)), (4, .int (iz v4))]) dX13_draw_140 rfl rfl rfl ?_
  refine z_goto (tgt := 45) X dX13_draw_143 rfl ?_
  exact z_sub [2, 3, 4, 5, 6, 0] rfl (hC45 _ _ _ _ _ _ h)
set_option maxRecDepth 100000 in
theorem wkm_draw_121 {Γ : ZG} {l : Launch} {D : va_G} {cr : List vw_C} {ds : Nat → ClassId} {ad : Nat → Nat} {post : ZS → Prop} (X : ZX Γ cX13_draw RX13 2 25) (K : ZCap Γ l (ΘM D cr ds ad) 9 0 0) (hR : ZRetV Γ cX13_draw 0 0 post) {C31 : Int × Int × Int × Int × ZS → Prop} (hC31 : ∀ (v1 : Int) (v2 : Int) (v3 : Int) (v4 : Int) (σ : ZS), C31 (v1, v2, v3, v4, σ) → Z Γ 0 0 σ [] 31 [(0, .ref (ad 0)), (1, .int (iz v1)), (2, .int (iz v2)), (3, .int (iz v3)), (4, .int (iz v4))] []) {C45 : Int × Int × Int × Int × Int × ZS → Prop} (hC45 : ∀ (v1 : Int) (v2 : Int) (v3 : Int) (v4 : Int) (v5 : Int) (σ : ZS), C45 (v1, v2, v3, v4, v5, σ) → Z Γ 0 0 σ [] 45 [(0, .ref (ad 0)), (1, .int (iz v1)), (2, .int (iz v2)), (3, .int (iz v3)), (4, .int (iz v4)), (5, .int (iz v5))] []) (v1 : Int) (v2 : Int) (v3 : Int) (v4 : Int) (v5 : Int) (σ : ZS) (h : wm_draw_121 C31 C45 post v1 v2 v3 v4 v5 σ) : Z Γ 0 0 σ [] 121 [(0, .ref (ad 0)), (1, .int (iz v1)), (2, .int (iz v2)), (3, .int (iz v3)), (4, .int (iz v4)), (5, .int (iz v5))] [] := by
  refine z_iconst X 0 dX13_draw_121 ?_
  exact z_sub [0, 1, 2, 3, 4, 5] rfl (wkm_draw_122 X K hR hC31 hC45 _ _ _ _ _ _ _ h)
set_option maxRecDepth 100000 in
theorem wkm_draw_93 {Γ : ZG} {l : Launch} {D : va_G} {cr : List vw_C} {ds : Nat → ClassId} {ad : Nat → Nat} {post : ZS → Prop} (X : ZX Γ cX13_draw RX13 2 25) (K : ZCap Γ l (ΘM D cr ds ad) 9 0 0) (hR : ZRetV Γ cX13_draw 0 0 post) {C31 : Int × Int × Int × Int × ZS → Prop} (hC31 : ∀ (v1 : Int) (v2 : Int) (v3 : Int) (v4 : Int) (σ : ZS), C31 (v1, v2, v3, v4, σ) → Z Γ 0 0 σ [] 31 [(0, .ref (ad 0)), (1, .int (iz v1)), (2, .int (iz v2)), (3, .int (iz v3)), (4, .int (iz v4))] []) {C45 : Int × Int × Int × Int × Int × ZS → Prop} (hC45 : ∀ (v1 : Int) (v2 : Int) (v3 : Int) (v4 : Int) (v5 : Int) (σ : ZS), C45 (v1, v2, v3, v4, v5, σ) → Z Γ 0 0 σ [] 45 [(0, .ref (ad 0)), (1, .int (iz v1)), (2, .int (iz v2)), (3, .int (iz v3)), (4, .int (iz v4)), (5, .int (iz v5))] []) (v1 : Int) (v2 : Int) (v3 : Int) (v4 : Int) (v5 : Int) (v6 : Int) (v7 : Int) (σ : ZS) (h : wm_draw_93 C31 C45 post v1 v2 v3 v4 v5 v6 v7 σ) : Z Γ 0 0 σ [] 93 [(0, .ref (ad 0)), (1, .int (iz v1)), (2, .int (iz v2)), (3, .int (iz v3)), (4, .int (iz v4)), (5, .int (iz v5)), (6, .int (iz v6)), (7, .int (iz v7))] [] := by
  refine z_iload X 7 dX13_draw_93 rfl ?_
  refine z_iload_n X 3 dX13_draw_95 rfl ?_
  refine z_iconst X 1 dX13_draw_96 ?_
  refine z_isub X dX13_draw_97 ?_
  obtain ⟨i1, h⟩ := h
  obtain ⟨i2, h⟩ := h
  refine z_icmp_ne X 121 dX13_draw_98 rfl i1 i2 (fun c3 => ?_) (fun c3 => ?_)
  · have h := h.1 c3
    exact z_sub [0, 1, 2, 3, 4, 5] rfl (wkm_draw_121 X K hR hC31 hC45 _ _ _ _ _ _ h)
  · have h := h.2 c3
    refine z_iload_n X 2 dX13_draw_101 rfl ?_
    refine z_iconst X 1 dX13_draw_102 ?_
    refine z_isub X dX13_draw_103 ?_
    refine z_iload X 6 dX13_draw_104 rfl ?_
    refine z_isub X dX13_draw_106 ?_
    refine z_iconst X 2 dX13_draw_107 ?_
    obtain ⟨i4, h⟩ := h
    obtain ⟨g5, h⟩ := h
    refine z_irem X dX13_draw_108 ⟨i4, (by decide), g5, (by decide)⟩ ?_
    obtain ⟨i6, h⟩ := h
    refine z_if_ne X 121 dX13_draw_109 rfl i6 (fun c7 => ?_) (fun c7 => ?_)
    · have h := h.1 c7
      exact z_sub [0, 1, 2, 3, 4, 5] rfl (wkm_draw_121 X K hR hC31 hC45 _ _ _ _ _ _ h)
    · have h := h.2 c7
      refine z_iload X 6 dX13_draw_112 rfl ?_
      obtain ⟨i8, h⟩ := h
      refine z_if_le X 121 dX13_draw_114 rfl i8 (fun c9 => ?_) (fun c9 => ?_)
      · have h := h.1 c9
        exact z_sub [0, 1, 2, 3, 4, 5] rfl (wkm_draw_121 X K hR hC31 hC45 _ _ _ _ _ _ h)
      · have h := h.2 c9
        refine z_iconst X 1 dX13_draw_117 ?_
        refine z_goto (tgt := 122) X dX13_draw_118 rfl ?_
        exact z_sub [0, 1, 2, 3, 4, 5] rfl (wkm_draw_122 X K hR hC31 hC45 _ _ _ _ _ _ _ h)
set_option maxRecDepth 100000 in
theorem wkm_draw_45 {Γ : ZG} {l : Launch} {D : va_G} {cr : List vw_C} {ds : Nat → ClassId} {ad : Nat → Nat} {post : ZS → Prop} (X : ZX Γ cX13_draw RX13 2 25) (K : ZCap Γ l (ΘM D cr ds ad) 9 0 0) (hR : ZRetV Γ cX13_draw 0 0 post) {C31 : Int × Int × Int × Int × ZS → Prop} (hC31 : ∀ (v1 : Int) (v2 : Int) (v3 : Int) (v4 : Int) (σ : ZS), C31 (v1, v2, v3, v4, σ) → Z Γ 0 0 σ [] 31 [(0, .ref (ad 0)), (1, .int (iz v1)), (2, .int (iz v2)), (3, .int (iz v3)), (4, .int (iz v4))] []) : ∀ (N : Nat) (v1 : Int) (v2 : Int) (v3 : Int) (v4 : Int) (v5 : Int) (σ : ZS), zfix (wbm_draw_45 C31 post) N (v1, v2, v3, v4, v5, σ) → Z Γ 0 0 σ [] 45 [(0, .ref (ad 0)), (1, .int (iz v1)), (2, .int (iz v2)), (3, .int (iz v3)), (4, .int (iz v4)), (5, .int (iz v5))] [] := by
  intro N
  induction N with
  | zero => intro v1 v2 v3 v4 v5 σ h; exact False.elim h
  | succ N ih =>
    intro v1 v2 v3 v4 v5 σ h
    have h : wbm_draw_45 C31 post (zfix (wbm_draw_45 C31 post) N) (v1, v2, v3, v4, v5, σ) := h
    have hC45 := ih
    clear ih
    generalize zfix (wbm_draw_45 C31 post) N = C45 at h hC45
    dsimp only [wbm_draw_45] at h
    refine z_iload X 5 dX13_draw_45 rfl ?_
    refine z_aload_n X 0 dX13_draw_47 rfl ?_
    refine gM_2 X K dX13_draw_48 ?_
    refine z_iload_n X 1 dX13_draw_51 rfl ?_
    obtain ⟨x1, h⟩ := h
    refine aM_2 X K dX13_draw_52 x1 ?_
    obtain ⟨i2, h⟩ := h
    obtain ⟨i3, h⟩ := h
    refine z_icmp_ge X 146 dX13_draw_53 rfl i2 i3 (fun c4 => ?_) (fun c4 => ?_)
    · have h := h.1 c4
      refine z_iincK X K 4 (lv' := [(4, .int (iz (v4 + 1))), (0, .ref (ad 0)), (1, .int (iz v1)), (2, .int (iz v2)), (3, .int (iz v3)), (5, .int (iz v5))]) dX13_draw_146 rfl rfl rfl ?_
      refine z_goto (tgt := 31) X dX13_draw_149 rfl ?_
      exact z_sub [1, 2, 3, 4, 0] rfl (hC31 _ _ _ _ _ h)
    · have h := h.2 c4
      refine z_iload X 4 dX13_draw_56 rfl ?_
      refine z_iload_n X 2 dX13_draw_58 rfl ?_
      obtain ⟨i5, h⟩ := h
      obtain ⟨g6, h⟩ := h
      obtain ⟨i7, h⟩ := h
      obtain ⟨g8, h⟩ := h
      refine z_irem X dX13_draw_59 ⟨i5, i7, g6, g8⟩ ?_
      refine z_topi (fun v6_9 ev6_9 => ?_)
      have h := h v6_9 ev6_9
      refine z_istoreK X K (lv' := [(6, .int (iz v6_9)), (0, .ref (ad 0)), (1, .int (iz v1)), (2, .int (iz v2)), (3, .int (iz v3)), (4, .int (iz v4)), (5, .int (iz v5))]) dX13_draw_60 rfl rfl ?_
      refine z_iload X 6 dX13_draw_62 rfl ?_
      refine z_iload_n X 4 dX13_draw_64 rfl ?_
      obtain ⟨g10, h⟩ := h
      obtain ⟨i11, h⟩ := h
      obtain ⟨g12, h⟩ := h
      refine z_irem X dX13_draw_65 ⟨i2, i11, g10, g12⟩ ?_
      refine z_topi (fun v7_13 ev7_13 => ?_)
      have h := h v7_13 ev7_13
      refine z_istoreK X K (lv' := [(7, .int (iz v7_13)), (6, .int (iz v6_9)), (0, .ref (ad 0)), (1, .int (iz v1)), (2, .int (iz v2)), (3, .int (iz v3)), (4, .int (iz v4)), (5, .int (iz v5))]) dX13_draw_66 rfl rfl ?_
      refine z_iload X 0 dX13_draw_68 rfl ?_
      obtain ⟨i14, h⟩ := h
      refine z_if_eq X 117 dX13_draw_70 rfl i14 (fun c15 => ?_) (fun c15 => ?_)
      · have h := h.1 c15
        refine z_iconst X 1 dX13_draw_117 ?_
        refine z_goto (tgt := 122) X dX13_draw_118 rfl ?_
        exact z_sub [2, 3, 4, 5, 6, 7] rfl (wkm_draw_122 X K hR hC31 hC45 _ _ _ _ _ _ _ h)
      · have h := h.2 c15
        refine z_iload X 1 dX13_draw_73 rfl ?_
        refine z_iload_n X 4 dX13_draw_75 rfl ?_
        refine z_iconst X 1 dX13_draw_76 ?_
        refine z_isub X dX13_draw_77 ?_
        obtain ⟨i16, h⟩ := h
        obtain ⟨i17, h⟩ := h
        refine z_icmp_eq X 117 dX13_draw_78 rfl i16 i17 (fun c18 => ?_) (fun c18 => ?_)
        · have h := h.1 c18
          refine z_iconst X 1 dX13_draw_117 ?_
          refine z_goto (tgt := 122) X dX13_draw_118 rfl ?_
          exact z_sub [2, 3, 4, 5, 6, 7] rfl (wkm_draw_122 X K hR hC31 hC45 _ _ _ _ _ _ _ h)
        · have h := h.2 c18
          refine z_iload X 1 dX13_draw_81 rfl ?_
          refine z_if_ne X 93 dX13_draw_83 rfl i16 (fun c19 => ?_) (fun c19 => ?_)
          · have h := h.1 c19
            exact z_sub [2, 3, 4, 5, 6, 7, 1, 0] rfl (wkm_draw_93 X K hR hC31 hC45 _ _ _ _ _ _ _ _ h)
          · have h := h.2 c19
            refine z_iload X 0 dX13_draw_86 rfl ?_
            refine z_iconst X 2 dX13_draw_88 ?_
            obtain ⟨g20, h⟩ := h
            refine z_irem X dX13_draw_89 ⟨i14, (by decide), g20, (by decide)⟩ ?_
            obtain ⟨i21, h⟩ := h
            refine z_if_eq X 117 dX13_draw_90 rfl i21 (fun c22 => ?_) (fun c22 => ?_)
            · have h := h.1 c22
              refine z_iconst X 1 dX13_draw_117 ?_
              refine z_goto (tgt := 122) X dX13_draw_118 rfl ?_
              exact z_sub [2, 3, 4, 5, 6, 7] rfl (wkm_draw_122 X K hR hC31 hC45 _ _ _ _ _ _ _ h)
            · have h := h.2 c22
              exact z_sub [2, 3, 4, 5, 6, 7, 1, 0] rfl (wkm_draw_93 X K hR hC31 hC45 _ _ _ _ _ _ _ _ h)
set_option maxRecDepth 100000 in
theorem wkm_draw_31 {Γ : ZG} {l : Launch} {D : va_G} {cr : List vw_C} {ds : Nat → ClassId} {ad : Nat → Nat} {post : ZS → Prop} (X : ZX Γ cX13_draw RX13 2 25) (K : ZCap Γ l (ΘM D cr ds ad) 9 0 0) (hR : ZRetV Γ cX13_draw 0 0 post) : ∀ (N : Nat) (v1 : Int) (v2 : Int) (v3 : Int) (v4 : Int) (σ : ZS), zfix (wbm_draw_31 post) N (v1, v2, v3, v4, σ) → Z Γ 0 0 σ [] 31 [(0, .ref (ad 0)), (1, .int (iz v1)), (2, .int (iz v2)), (3, .int (iz v3)), (4, .int (iz v4))] [] := by
  intro N
  induction N with
  | zero => intro v1 v2 v3 v4 σ h; exact False.elim h
  | succ N ih =>
    intro v1 v2 v3 v4 σ h
    have h : wbm_draw_31 post (zfix (wbm_draw_31 post) N) (v1, v2, v3, v4, σ) := h
    have hC31 := ih
    clear ih
    generalize zfix (wbm_draw_31 post) N = C31 at h hC31
    dsimp only [wbm_draw_31] at h
    refine z_iload X 4 dX13_draw_31 rfl ?_
    refine z_aload_n X 0 dX13_draw_33 rfl ?_
    refine gM_1 X K dX13_draw_34 ?_
    refine z_iload_n X 1 dX13_draw_37 rfl ?_
    obtain ⟨x1, h⟩ := h
    refine aM_1 X K dX13_draw_38 x1 ?_
    obtain ⟨i2, h⟩ := h
    obtain ⟨i3, h⟩ := h
    refine z_icmp_ge X 152 dX13_draw_39 rfl i2 i3 (fun c4 => ?_) (fun c4 => ?_)
    · have h := h.1 c4
      refine z_aload_n X 0 dX13_draw_152 rfl ?_
      refine z_aload_n X 0 dX13_draw_153 rfl ?_
      refine gM_15 X K dX13_draw_154 ?_
      refine z_iconst X 1 dX13_draw_157 ?_
      refine z_isub X dX13_draw_158 ?_
      refine z_aload_n X 0 dX13_draw_159 rfl ?_
      refine gM_16 X K dX13_draw_160 ?_
      refine z_iconst X 1 dX13_draw_163 ?_
      refine z_isub X dX13_draw_164 ?_
      refine clm_isFree X K rfl h (Nat.le_of_ble_eq_true rfl) dX13_draw_165 (fun r6 σ5 h => ?_)
      obtain ⟨b6, h⟩ := h
      have h := h b6
      refine z_if_eq X 263 dX13_draw_168 rfl (InR_b b6) (fun c8 => ?_) (fun c8 => ?_)
      · have h := h.1 c8
        exact hR _ _ _ _ _ _ dX13_draw_263 (Nat.le_refl 0) (Nat.le_refl 0) h
      · have h := h.2 c8
        refine z_aload_n X 0 dX13_draw_171 rfl ?_
        refine gM_19 X K dX13_draw_172 ?_
        refine z_aload_n X 0 dX13_draw_175 rfl ?_
        refine z_iload_n X 1 dX13_draw_176 rfl ?_
        refine z_aload_n X 0 dX13_draw_177 rfl ?_
        refine gM_15 X K dX13_draw_178 ?_
        refine z_iconst X 1 dX13_draw_181 ?_
        refine z_isub X dX13_draw_182 ?_
        refine z_aload_n X 0 dX13_draw_183 rfl ?_
        refine gM_16 X K dX13_draw_184 ?_
        refine z_iconst X 1 dX13_draw_187 ?_
        refine z_isub X dX13_draw_188 ?_
        refine clm_moduleAt X K rfl h (Nat.le_of_ble_eq_true rfl) dX13_draw_189 (fun r10 σ9 h => ?_)
        refine z_iconst X 1 dX13_draw_192 ?_
        obtain ⟨x11, h⟩ := h
        refine sM_12 X K dX13_draw_193 x11 (Or.inr rfl) (fun σ12 eσ12 => ?_)
        have h := h σ12 eσ12
        refine z_aload_n X 0 dX13_draw_194 rfl ?_
        refine gM_19 X K dX13_draw_195 ?_
        refine z_aload_n X 0 dX13_draw_198 rfl ?_
        refine z_iload_n X 1 dX13_draw_199 rfl ?_
        refine z_aload_n X 0 dX13_draw_200 rfl ?_
        refine gM_15 X K dX13_draw_201 ?_
        refine z_iconst X 2 dX13_draw_204 ?_
        refine z_isub X dX13_draw_205 ?_
        refine z_aload_n X 0 dX13_draw_206 rfl ?_
        refine gM_16 X K dX13_draw_207 ?_
        refine z_iconst X 2 dX13_draw_210 ?_
        refine z_isub X dX13_draw_211 ?_
        refine clm_moduleAt X K rfl h (Nat.le_of_ble_eq_true rfl) dX13_draw_212 (fun r14 σ13 h => ?_)
        refine z_iconst X 1 dX13_draw_215 ?_
        obtain ⟨x15, h⟩ := h
        refine sM_12 X K dX13_draw_216 x15 (Or.inr rfl) (fun σ16 eσ16 => ?_)
        have h := h σ16 eσ16
        refine z_aload_n X 0 dX13_draw_217 rfl ?_
        refine gM_19 X K dX13_draw_218 ?_
        refine z_aload_n X 0 dX13_draw_221 rfl ?_
        refine z_iload_n X 1 dX13_draw_222 rfl ?_
        refine z_aload_n X 0 dX13_draw_223 rfl ?_
        refine gM_15 X K dX13_draw_224 ?_
        refine z_iconst X 1 dX13_draw_227 ?_
        refine z_isub X dX13_draw_228 ?_
        refine z_aload_n X 0 dX13_draw_229 rfl ?_
        refine gM_16 X K dX13_draw_230 ?_
        refine z_iconst X 2 dX13_draw_233 ?_
        refine z_isub X dX13_draw_234 ?_
        refine clm_moduleAt X K rfl h (Nat.le_of_ble_eq_true rfl) dX13_draw_235 (fun r18 σ17 h => ?_)
        refine z_iconst X 0 dX13_draw_238 ?_
        obtain ⟨x19, h⟩ := h
        refine sM_12 X K dX13_draw_239 x19 (Or.inl rfl) (fun σ20 eσ20 => ?_)
        have h := h σ20 eσ20
        refine z_aload_n X 0 dX13_draw_240 rfl ?_
        refine gM_19 X K dX13_draw_241 ?_
        refine z_aload_n X 0 dX13_draw_244 rfl ?_
        refine z_iload_n X 1 dX13_draw_245 rfl ?_
        refine z_aload_n X 0 dX13_draw_246 rfl ?_
        refine gM_15 X K dX13_draw_247 ?_
        refine z_iconst X 2 dX13_draw_250 ?_
        refine z_isub X dX13_draw_251 ?_
        refine z_aload_n X 0 dX13_draw_252 rfl ?_
        refine gM_16 X K dX13_draw_253 ?_
        refine z_iconst X 1 dX13_draw_256 ?_
        refine z_isub X dX13_draw_257 ?_
        refine clm_moduleAt X K rfl h (Nat.le_of_ble_eq_true rfl) dX13_draw_258 (fun r22 σ21 h => ?_)
        refine z_iconst X 0 dX13_draw_261 ?_
        obtain ⟨x23, h⟩ := h
        refine sM_12 X K dX13_draw_262 x23 (Or.inl rfl) (fun σ24 eσ24 => ?_)
        have h := h σ24 eσ24
        exact hR _ _ _ _ _ _ dX13_draw_263 (Nat.le_refl 0) (Nat.le_refl 0) h
    · have h := h.2 c4
      refine z_iconst X 0 dX13_draw_42 ?_
      refine z_istoreK X K (lv' := [(5, .int (iz 0)), (0, .ref (ad 0)), (1, .int (iz v1)), (2, .int (iz v2)), (3, .int (iz v3)), (4, .int (iz v4))]) dX13_draw_43 rfl rfl ?_
      obtain ⟨N, h⟩ := h
      exact z_sub [1, 2, 3, 4, 5, 0] rfl (wkm_draw_45 X K hR hC31 N _ _ _ _ _ _ h)
set_option maxRecDepth 100000 in
theorem mt_draw (l : Launch) (D : va_G) (cr : List vw_C) (ds : Nat → ClassId) (ad : Nat → Nat) (a0 : Int) (σ : ZS) (post : ZS → Prop) (h : wm_draw a0 σ post) : ZMetV l (ΘM D cr ds ad) yX13_draw cX13_draw 9 2 25 0 0 [.ref (ad 0), .int (iz a0)] σ post := by
  refine ZMetV.of (by decide) (Nat.le_of_ble_eq_true rfl) (fun Γ X K hR => ?_)
  have X : ZX Γ cX13_draw RX13 2 25 := X
  refine z_sub [0, 1] (lv' := [(0, .ref (ad 0)), (1, .int (iz a0))]) rfl ?_
  refine z_aload_n X 0 dX13_draw_0 rfl ?_
  refine gM_15 X K dX13_draw_1 ?_
  refine z_aload_n X 0 dX13_draw_4 rfl ?_
  refine gM_5 X K dX13_draw_5 ?_
  refine z_iload_n X 1 dX13_draw_8 rfl ?_
  obtain ⟨x1, h⟩ := h
  refine aM_5 X K dX13_draw_9 x1 ?_
  obtain ⟨i2, h⟩ := h
  obtain ⟨g3, h⟩ := h
  obtain ⟨i4, h⟩ := h
  obtain ⟨g5, h⟩ := h
  refine z_idiv X dX13_draw_10 ⟨i2, i4, g3, g5⟩ ?_
  refine z_iconst X 2 dX13_draw_11 ?_
  refine z_iadd X dX13_draw_12 ?_
  refine z_topi (fun v2_6 ev2_6 => ?_)
  have h := h v2_6 ev2_6
  refine z_istore_nK X K (lv' := [(2, .int (iz v2_6)), (0, .ref (ad 0)), (1, .int (iz a0))]) dX13_draw_13 rfl rfl ?_
  refine z_aload_n X 1 dX13_draw_14 rfl ?_
  refine gM_16 X K dX13_draw_15 ?_
  refine z_aload_n X 1 dX13_draw_18 rfl ?_
  refine gM_6 X K dX13_draw_19 ?_
  refine z_iload_n X 2 dX13_draw_22 rfl ?_
  refine aM_6 X K dX13_draw_23 x1 ?_
  obtain ⟨i7, h⟩ := h
  obtain ⟨g8, h⟩ := h
  obtain ⟨i9, h⟩ := h
  obtain ⟨g10, h⟩ := h
  refine z_idiv X dX13_draw_24 ⟨i7, i9, g8, g10⟩ ?_
  refine z_iconst X 2 dX13_draw_25 ?_
  refine z_iadd X dX13_draw_26 ?_
  refine z_topi (fun v3_11 ev3_11 => ?_)
  have h := h v3_11 ev3_11
  refine z_istore_nK X K (lv' := [(3, .int (iz v3_11)), (2, .int (iz v2_6)), (0, .ref (ad 0)), (1, .int (iz a0))]) dX13_draw_27 rfl rfl ?_
  refine z_iconst X 0 dX13_draw_28 ?_
  refine z_istoreK X K (lv' := [(4, .int (iz 0)), (3, .int (iz v3_11)), (2, .int (iz v2_6)), (0, .ref (ad 0)), (1, .int (iz a0))]) dX13_draw_29 rfl rfl ?_
  obtain ⟨N, h⟩ := h
  exact z_sub [3, 4, 2, 1, 0] rfl (wkm_draw_31 X K hR N _ _ _ _ _ h)
set_option maxRecDepth 100000 in
theorem clm_draw {Γ : ZG} {cc : ByteArray} {fr lo nL pc : Nat} {lv : List (Nat × Value)} {st : List Value} {l : Launch} {D : va_G} {cr : List vw_C} {ds : Nat → ClassId} {ad : Nat → Nat} {a0 : Int} {σ : ZS} {post : ZS → Prop} (X : ZX Γ cc RX13 fr lo) (K : ZCap Γ l (ΘM D cr ds ad) nL 0 0) (hrm : zroom 3 53 fr lo = true) (h : wm_draw a0 σ post) (hst : (st.map fun v => v.category).sum ≤ 8) (d : decode cc pc = .ok (.invokevirtual 433, 3)) (kk : ∀ (σ' : ZS), post σ' → Z Γ 0 0 σ' [] (pc + 3) lv (st)) : Z Γ 0 0 σ [] pc lv (.int (iz a0) :: .ref (ad 0) :: st) :=
  z_callVV' (C := RX13) (q0 := 0) X K (mt_draw l D cr ds ad a0 σ post h) (Nat.le_of_ble_eq_true rfl) rfl rfl rfl (lw_V q1721 q1723 qs106 q127 q1724) ⟨rfl, by decide, by decide, rfl⟩ (zroom_of hrm) ⟨Nat.zero_le _, Nat.zero_le _⟩ hst d rfl kk
/- X13_isAllowed -/
set_option maxRecDepth 100000 in
theorem wkm_isAllowed_26 {Γ : ZG} {l : Launch} {D : va_G} {cr : List vw_C} {ds : Nat → ClassId} {ad : Nat → Nat} {post : Int → ZS → Prop} (X : ZX Γ cX13_isAllowed RX13 1 0) (K : ZCap Γ l (ΘM D cr ds ad) 3 0 0) (hR : ZRetI Γ cX13_isAllowed .boolean 0 0 (fun r σ => (r = 0 ∨ r = 1) ∧ post r σ)) (v1 : Int) (v2 : Int) (σ : ZS) (h : wm_isAllowed_26 post v1 v2 σ) : Z Γ 0 0 σ [] 26 [(1, .int (iz v1)), (2, .int (iz v2))] [] := by
  refine z_iload_n X 1 dX13_isAllowed_26 rfl ?_
  refine z_bipush X 100 dX13_isAllowed_27 rfl ?_
  refine z_iload_n X 0 dX13_isAllowed_29 rfl ?_
  refine z_iadd X dX13_isAllowed_30 ?_
  obtain ⟨i1, h⟩ := h
  obtain ⟨i2, h⟩ := h
  refine z_icmp_ne X 38 dX13_isAllowed_31 rfl i1 i2 (fun c3 => ?_) (fun c3 => ?_)
  · have h := h.1 c3
    refine z_iconst X 0 dX13_isAllowed_38 ?_
    exact hR _ _ _ _ _ _ _ dX13_isAllowed_39 (z_nb (Or.inl rfl)) (Nat.le_refl 0) (Nat.le_refl 0) ⟨(Or.inl rfl), h⟩
  · have h := h.2 c3
    refine z_iconst X 1 dX13_isAllowed_34 ?_
    refine z_goto (tgt := 39) X dX13_isAllowed_35 rfl ?_
    exact hR _ _ _ _ _ _ _ dX13_isAllowed_39 (z_nb (Or.inr rfl)) (Nat.le_refl 0) (Nat.le_refl 0) ⟨(Or.inr rfl), h⟩
set_option maxRecDepth 100000 in
theorem wkm_isAllowed_15 {Γ : ZG} {l : Launch} {D : va_G} {cr : List vw_C} {ds : Nat → ClassId} {ad : Nat → Nat} {post : Int → ZS → Prop} (X : ZX Γ cX13_isAllowed RX13 1 0) (K : ZCap Γ l (ΘM D cr ds ad) 3 0 0) (hR : ZRetI Γ cX13_isAllowed .boolean 0 0 (fun r σ => (r = 0 ∨ r = 1) ∧ post r σ)) (v1 : Int) (v2 : Int) (σ : ZS) (h : wm_isAllowed_15 post v1 v2 σ) : Z Γ 0 0 σ [] 15 [(1, .int (iz v1)), (2, .int (iz v2))] [] := by
  refine z_iload_n X 1 dX13_isAllowed_15 rfl ?_
  refine z_iconst X 1 dX13_isAllowed_16 ?_
  obtain ⟨i1, h⟩ := h
  refine z_icmp_ne X 26 dX13_isAllowed_17 rfl i1 (by decide) (fun c2 => ?_) (fun c2 => ?_)
  · have h := h.1 c2
    exact z_sub [0, 1] rfl (wkm_isAllowed_26 X K hR _ _ _ h)
  · have h := h.2 c2
    refine z_iload_n X 0 dX13_isAllowed_20 rfl ?_
    refine z_bipush X 23 dX13_isAllowed_21 rfl ?_
    obtain ⟨i3, h⟩ := h
    refine z_icmp_gt X 34 dX13_isAllowed_23 rfl i3 (by decide) (fun c4 => ?_) (fun c4 => ?_)
    · have h := h.1 c4
      refine z_iconst X 1 dX13_isAllowed_34 ?_
      refine z_goto (tgt := 39) X dX13_isAllowed_35 rfl ?_
      exact hR _ _ _ _ _ _ _ dX13_isAllowed_39 (z_nb (Or.inr rfl)) (Nat.le_refl 0) (Nat.le_refl 0) ⟨(Or.inr rfl), h⟩
    · have h := h.2 c4
      exact z_sub [0, 1] rfl (wkm_isAllowed_26 X K hR _ _ _ h)
set_option maxRecDepth 100000 in
theorem mt_isAllowed (l : Launch) (D : va_G) (cr : List vw_C) (ds : Nat → ClassId) (ad : Nat → Nat) (a0 : Int) (a1 : Int) (σ : ZS) (post : Int → ZS → Prop) (h : wm_isAllowed a0 a1 σ post) : ZMetI l (ΘM D cr ds ad) yX13_isAllowed cX13_isAllowed 3 .boolean 1 0 0 0 [.ref (ad 0), .int (iz a0), .int (iz a1)] σ (fun r σ => (r = 0 ∨ r = 1) ∧ post r σ) := by
  refine ZMetI.of (by decide) (Nat.le_of_ble_eq_true rfl) (fun Γ X K hR => ?_)
  have X : ZX Γ cX13_isAllowed RX13 1 0 := X
  refine z_sub [0, 1, 2] (lv' := [(0, .ref (ad 0)), (1, .int (iz a0)), (2, .int (iz a1))]) rfl ?_
  refine z_iload_n X 2 dX13_isAllowed_0 rfl ?_
  refine z_iconst X 2 dX13_isAllowed_1 ?_
  obtain ⟨i1, h⟩ := h
  refine z_icmp_eq X 34 dX13_isAllowed_2 rfl i1 (by decide) (fun c2 => ?_) (fun c2 => ?_)
  · have h := h.1 c2
    refine z_iconst X 1 dX13_isAllowed_34 ?_
    refine z_goto (tgt := 39) X dX13_isAllowed_35 rfl ?_
    exact hR _ _ _ _ _ _ _ dX13_isAllowed_39 (z_nb (Or.inr rfl)) (Nat.le_refl 0) (Nat.le_refl 0) ⟨(Or.inr rfl), h⟩
  · have h := h.2 c2
    refine z_iload_n X 2 dX13_isAllowed_5 rfl ?_
    refine z_if_ne X 15 dX13_isAllowed_6 rfl i1 (fun c3 => ?_) (fun c3 => ?_)
    · have h := h.1 c3
      exact z_sub [1, 2] rfl (wkm_isAllowed_15 X K hR _ _ _ h)
    · have h := h.2 c3
      refine z_iload_n X 1 dX13_isAllowed_9 rfl ?_
      refine z_bipush X 24 dX13_isAllowed_10 rfl ?_
      obtain ⟨i4, h⟩ := h
      refine z_icmp_lt X 34 dX13_isAllowed_12 rfl i4 (by decide) (fun c5 => ?_) (fun c5 => ?_)
      · have h := h.1 c5
        refine z_iconst X 1 dX13_isAllowed_34 ?_
        refine z_goto (tgt := 39) X dX13_isAllowed_35 rfl ?_
        exact hR _ _ _ _ _ _ _ dX13_isAllowed_39 (z_nb (Or.inr rfl)) (Nat.le_refl 0) (Nat.le_refl 0) ⟨(Or.inr rfl), h⟩
      · have h := h.2 c5
        exact z_sub [1, 2] rfl (wkm_isAllowed_15 X K hR _ _ _ h)
set_option maxRecDepth 100000 in
theorem clm_isAllowed {Γ : ZG} {cc : ByteArray} {fr lo nL pc : Nat} {lv : List (Nat × Value)} {st : List Value} {l : Launch} {D : va_G} {cr : List vw_C} {ds : Nat → ClassId} {ad : Nat → Nat} {a0 : Int} {a1 : Int} {σ : ZS} {post : Int → ZS → Prop} (X : ZX Γ cc RX13 fr lo) (K : ZCap Γ l (ΘM D cr ds ad) nL 0 0) (hrm : zroom 2 22 fr lo = true) (h : wm_isAllowed a0 a1 σ post) (hst : (st.map fun v => v.category).sum ≤ 8) (d : decode cc pc = .ok (.invokevirtual 412, 3)) (kk : ∀ (r : Int) (σ' : ZS), (fun r σ => (r = 0 ∨ r = 1) ∧ post r σ) r σ' → Z Γ 0 0 σ' [] (pc + 3) lv (.int (iz r) :: st)) : Z Γ 0 0 σ [] pc lv (.int (iz a1) :: .int (iz a0) :: .ref (ad 0) :: st) :=
  z_callVI' (C := RX13) (q0 := 0) X K (mt_isAllowed l D cr ds ad a0 a1 σ post h) (Nat.le_of_ble_eq_true rfl) rfl rfl rfl (lw_V q1646 q1648 qs88 q127 q1649) ⟨rfl, by decide, by decide, rfl⟩ (zroom_of hrm) ⟨Nat.zero_le _, Nat.zero_le _⟩ hst d rfl kk
/- X13_least -/
set_option maxRecDepth 100000 in
theorem mt_least (l : Launch) (D : va_G) (cr : List vw_C) (ds : Nat → ClassId) (ad : Nat → Nat) (a0 : Int) (a1 : Int) (σ : ZS) (post : Int → ZS → Prop) (h : wm_least a0 a1 σ post) : ZMetI l (ΘM D cr ds ad) yX13_least cX13_least 2 .int 1 0 0 0 [.int (iz a0), .int (iz a1)] σ post := by
  refine ZMetI.of (by decide) (Nat.le_of_ble_eq_true rfl) (fun Γ X K hR => ?_)
  have X : ZX Γ cX13_least RX13 1 0 := X
  refine z_sub [0, 1] (lv' := [(0, .int (iz a0)), (1, .int (iz a1))]) rfl ?_
  refine z_iload_n X 0 dX13_least_0 rfl ?_
  refine z_iload_n X 1 dX13_least_1 rfl ?_
  obtain ⟨i1, h⟩ := h
  obtain ⟨i2, h⟩ := h
  refine z_icmp_ge X 9 dX13_least_2 rfl i1 i2 (fun c3 => ?_) (fun c3 => ?_)
  · have h := h.1 c3
    refine z_iload_n X 1 dX13_least_9 rfl ?_
    exact hR _ _ _ _ _ _ _ dX13_least_10 rfl (Nat.le_refl 0) (Nat.le_refl 0) h
  · have h := h.2 c3
    refine z_iload_n X 0 dX13_least_5 rfl ?_
    refine z_goto (tgt := 10) X dX13_least_6 rfl ?_
    exact hR _ _ _ _ _ _ _ dX13_least_10 rfl (Nat.le_refl 0) (Nat.le_refl 0) h
set_option maxRecDepth 100000 in
theorem clm_least {Γ : ZG} {cc : ByteArray} {fr lo nL pc : Nat} {lv : List (Nat × Value)} {st : List Value} {l : Launch} {D : va_G} {cr : List vw_C} {ds : Nat → ClassId} {ad : Nat → Nat} {a0 : Int} {a1 : Int} {σ : ZS} {post : Int → ZS → Prop} (X : ZX Γ cc RX13 fr lo) (K : ZCap Γ l (ΘM D cr ds ad) nL 0 0) (hrm : zroom 2 21 fr lo = true) (h : wm_least a0 a1 σ post) (hst : (st.map fun v => v.category).sum ≤ 8) (d : decode cc pc = .ok (.invokestatic 421, 3)) (kk : ∀ (r : Int) (σ' : ZS), post r σ' → Z Γ 0 0 σ' [] (pc + 3) lv (.int (iz r) :: st)) : Z Γ 0 0 σ [] pc lv (.int (iz a1) :: .int (iz a0) :: st) :=
  z_callSI' X K (mt_least l D cr ds ad a0 a1 σ post h) (lw_S q1658 q1659 q127 q1660) ⟨by decide, by decide, rfl⟩ (zroom_of hrm) ⟨Nat.zero_le _, Nat.zero_le _⟩ hst d rfl kk
/- X13_lengthIn -/
set_option maxRecDepth 100000 in
theorem wkm_lengthIn_25 {Γ : ZG} {l : Launch} {D : va_G} {cr : List vw_C} {ds : Nat → ClassId} {ad : Nat → Nat} {post : Int → ZS → Prop} (X : ZX Γ cX13_lengthIn RX13 2 24) (K : ZCap Γ l (ΘM D cr ds ad) 3 0 0) (hR : ZRetI Γ cX13_lengthIn .int 0 0 post) : ∀ (N : Nat) (v1 : Int) (v2 : Int) (σ : ZS), zfix (wbm_lengthIn_25 post) N (v1, v2, σ) → Z Γ 0 0 σ [] 25 [(0, .ref (ad 0)), (1, .int (iz v1)), (2, .int (iz v2))] [] := by
  intro N
  induction N with
  | zero => intro v1 v2 σ h; exact False.elim h
  | succ N ih =>
    intro v1 v2 σ h
    have h : wbm_lengthIn_25 post (zfix (wbm_lengthIn_25 post) N) (v1, v2, σ) := h
    have hC25 := ih
    clear ih
    generalize zfix (wbm_lengthIn_25 post) N = C25 at h hC25
    dsimp only [wbm_lengthIn_25] at h
    refine z_iload_n X 2 dX13_lengthIn_25 rfl ?_
    obtain ⟨i1, h⟩ := h
    refine z_if_lt X 71 dX13_lengthIn_26 rfl i1 (fun c2 => ?_) (fun c2 => ?_)
    · have h := h.1 c2
      refine z_iconst X (-1) dX13_lengthIn_71 ?_
      exact hR _ _ _ _ _ _ _ dX13_lengthIn_72 rfl (Nat.le_refl 0) (Nat.le_refl 0) h
    · have h := h.2 c2
      refine z_iload_n X 1 dX13_lengthIn_29 rfl ?_
      refine z_aload_n X 0 dX13_lengthIn_30 rfl ?_
      refine gM_41 X K dX13_lengthIn_31 ?_
      refine z_sipush X 9603 dX13_lengthIn_34 rfl ?_
      refine aM_23 X K dX13_lengthIn_37 (by decide) ?_
      refine z_isub X dX13_lengthIn_38 ?_
      refine z_bipush X (-2) dX13_lengthIn_39 rfl ?_
      obtain ⟨i3, h⟩ := h
      refine z_icmp_le X 71 dX13_lengthIn_41 rfl i3 (by decide) (fun c4 => ?_) (fun c4 => ?_)
      · have h := h.1 c4
        refine z_iconst X (-1) dX13_lengthIn_71 ?_
        exact hR _ _ _ _ _ _ _ dX13_lengthIn_72 rfl (Nat.le_refl 0) (Nat.le_refl 0) h
      · have h := h.2 c4
        refine z_iload_n X 1 dX13_lengthIn_44 rfl ?_
        refine z_iload_n X 2 dX13_lengthIn_45 rfl ?_
        obtain ⟨i5, h⟩ := h
        refine z_icmp_lt X 65 dX13_lengthIn_46 rfl i5 i1 (fun c6 => ?_) (fun c6 => ?_)
        · have h := h.1 c6
          refine z_iincK X K 2 (lv' := [(2, .int (iz (v2 + (-1)))), (0, .ref (ad 0)), (1, .int (iz v1))]) dX13_lengthIn_65 rfl rfl rfl ?_
          refine z_goto (tgt := 25) X dX13_lengthIn_68 rfl ?_
          exact z_sub [1, 2, 0] rfl (hC25 _ _ _ h)
        · have h := h.2 c6
          refine z_aload_n X 0 dX13_lengthIn_49 rfl ?_
          refine z_iload_n X 2 dX13_lengthIn_50 rfl ?_
          refine z_iconst X 0 dX13_lengthIn_51 ?_
          refine z_iload_n X 1 dX13_lengthIn_52 rfl ?_
          refine z_iload_n X 2 dX13_lengthIn_53 rfl ?_
          refine z_isub X dX13_lengthIn_54 ?_
          refine clm_has X K rfl h (Nat.le_of_ble_eq_true rfl) dX13_lengthIn_55 (fun r8 σ7 h => ?_)
          obtain ⟨b8, h⟩ := h
          have h := h b8
          refine z_if_eq X 65 dX13_lengthIn_58 rfl (InR_b b8) (fun c10 => ?_) (fun c10 => ?_)
          · have h := h.1 c10
            refine z_iincK X K 2 (lv' := [(2, .int (iz (v2 + (-1)))), (0, .ref (ad 0)), (1, .int (iz v1))]) dX13_lengthIn_65 rfl rfl rfl ?_
            refine z_goto (tgt := 25) X dX13_lengthIn_68 rfl ?_
            exact z_sub [1, 2, 0] rfl (hC25 _ _ _ h)
          · have h := h.2 c10
            refine z_iload_n X 1 dX13_lengthIn_61 rfl ?_
            refine z_iload_n X 2 dX13_lengthIn_62 rfl ?_
            refine z_isub X dX13_lengthIn_63 ?_
            exact hR _ _ _ _ _ _ _ dX13_lengthIn_64 rfl (Nat.le_refl 0) (Nat.le_refl 0) h
set_option maxRecDepth 100000 in
theorem mt_lengthIn (l : Launch) (D : va_G) (cr : List vw_C) (ds : Nat → ClassId) (ad : Nat → Nat) (a0 : Int) (σ : ZS) (post : Int → ZS → Prop) (h : wm_lengthIn a0 σ post) : ZMetI l (ΘM D cr ds ad) yX13_lengthIn cX13_lengthIn 3 .int 2 24 0 0 [.ref (ad 0), .int (iz a0)] σ post := by
  refine ZMetI.of (by decide) (Nat.le_of_ble_eq_true rfl) (fun Γ X K hR => ?_)
  have X : ZX Γ cX13_lengthIn RX13 2 24 := X
  refine z_sub [0, 1] (lv' := [(0, .ref (ad 0)), (1, .int (iz a0))]) rfl ?_
  refine z_aload_n X 0 dX13_lengthIn_0 rfl ?_
  refine gM_41 X K dX13_lengthIn_1 ?_
  refine z_sipush X 9603 dX13_lengthIn_4 rfl ?_
  refine aM_23 X K dX13_lengthIn_7 (by decide) ?_
  refine z_iload_n X 1 dX13_lengthIn_8 rfl ?_
  refine z_iconst X 3 dX13_lengthIn_9 ?_
  refine z_isub X dX13_lengthIn_10 ?_
  obtain ⟨i1, h⟩ := h
  obtain ⟨i2, h⟩ := h
  refine z_icmp_gt X 23 dX13_lengthIn_11 rfl i1 i2 (fun c3 => ?_) (fun c3 => ?_)
  · have h := h.1 c3
    refine z_iconst X 2 dX13_lengthIn_23 ?_
    refine z_istore_nK X K (lv' := [(2, .int (iz 2)), (0, .ref (ad 0)), (1, .int (iz a0))]) dX13_lengthIn_24 rfl rfl ?_
    obtain ⟨N, h⟩ := h
    exact z_sub [1, 2, 0] rfl (wkm_lengthIn_25 X K hR N _ _ _ h)
  · have h := h.2 c3
    refine z_aload_n X 0 dX13_lengthIn_14 rfl ?_
    refine gM_41 X K dX13_lengthIn_15 ?_
    refine z_sipush X 9603 dX13_lengthIn_18 rfl ?_
    refine aM_23 X K dX13_lengthIn_21 (by decide) ?_
    exact hR _ _ _ _ _ _ _ dX13_lengthIn_22 rfl (Nat.le_refl 0) (Nat.le_refl 0) h
set_option maxRecDepth 100000 in
theorem clm_lengthIn {Γ : ZG} {cc : ByteArray} {fr lo nL pc : Nat} {lv : List (Nat × Value)} {st : List Value} {l : Launch} {D : va_G} {cr : List vw_C} {ds : Nat → ClassId} {ad : Nat → Nat} {a0 : Int} {σ : ZS} {post : Int → ZS → Prop} (X : ZX Γ cc RX13 fr lo) (K : ZCap Γ l (ΘM D cr ds ad) nL 0 0) (hrm : zroom 3 46 fr lo = true) (h : wm_lengthIn a0 σ post) (hst : (st.map fun v => v.category).sum ≤ 8) (d : decode cc pc = .ok (.invokevirtual 415, 3)) (kk : ∀ (r : Int) (σ' : ZS), post r σ' → Z Γ 0 0 σ' [] (pc + 3) lv (.int (iz r) :: st)) : Z Γ 0 0 σ [] pc lv (.int (iz a0) :: .ref (ad 0) :: st) :=
  z_callVI' (C := RX13) (q0 := 0) X K (mt_lengthIn l D cr ds ad a0 σ post h) (Nat.le_of_ble_eq_true rfl) rfl rfl rfl (lw_V q1650 q1652 qs89 q127 q1653) ⟨rfl, by decide, by decide, rfl⟩ (zroom_of hrm) ⟨Nat.zero_le _, Nat.zero_le _⟩ hst d rfl kk
/- X13_none -/
set_option maxRecDepth 100000 in
theorem mt_none (l : Launch) (D : va_G) (cr : List vw_C) (ds : Nat → ClassId) (ad : Nat → Nat) (σ : ZS) (post : ZS → Prop) (h : wm_none  σ post) : ZMetV l (ΘM D cr ds ad) yX13_none cX13_none 1 1 0 0 0 [.ref (ad 0)] σ post := by
  refine ZMetV.of (by decide) (Nat.le_of_ble_eq_true rfl) (fun Γ X K hR => ?_)
  have X : ZX Γ cX13_none RX13 1 0 := X
  refine z_sub [0] (lv' := [(0, .ref (ad 0))]) rfl ?_
  refine z_aload_n X 0 dX13_none_0 rfl ?_
  refine z_ldcw X 1000000 q1587 rfl dX13_none_1 ?_
  refine pM_45 X K dX13_none_4 (fun σ1 eσ1 => ?_)
  have h := h σ1 eσ1
  refine z_aload_n X 0 dX13_none_7 rfl ?_
  refine z_iconst X 0 dX13_none_8 ?_
  refine pM_46 X K dX13_none_9 (fun σ2 eσ2 => ?_)
  have h := h σ2 eσ2
  exact hR _ _ _ _ _ _ dX13_none_12 (Nat.le_refl 0) (Nat.le_refl 0) h
set_option maxRecDepth 100000 in
theorem clm_none {Γ : ZG} {cc : ByteArray} {fr lo nL pc : Nat} {lv : List (Nat × Value)} {st : List Value} {l : Launch} {D : va_G} {cr : List vw_C} {ds : Nat → ClassId} {ad : Nat → Nat} {σ : ZS} {post : ZS → Prop} (X : ZX Γ cc RX13 fr lo) (K : ZCap Γ l (ΘM D cr ds ad) nL 0 0) (hrm : zroom 2 20 fr lo = true) (h : wm_none  σ post) (hst : (st.map fun v => v.category).sum ≤ 8) (d : decode cc pc = .ok (.invokevirtual 344, 3)) (kk : ∀ (σ' : ZS), post σ' → Z Γ 0 0 σ' [] (pc + 3) lv (st)) : Z Γ 0 0 σ [] pc lv (.ref (ad 0) :: st) :=
  z_callVV' (C := RX13) (q0 := 0) X K (mt_none l D cr ds ad  σ post h) (Nat.le_of_ble_eq_true rfl) rfl rfl rfl (lw_V q1592 q1594 qs77 q127 q1595) ⟨rfl, by decide, by decide, rfl⟩ (zroom_of hrm) ⟨Nat.zero_le _, Nat.zero_le _⟩ hst d rfl kk
/- X13_offer -/
set_option maxRecDepth 100000 in
theorem wkm_offer_103 {Γ : ZG} {l : Launch} {D : va_G} {cr : List vw_C} {ds : Nat → ClassId} {ad : Nat → Nat} {post : ZS → Prop} (X : ZX Γ cX13_offer RX13 1 0) (K : ZCap Γ l (ΘM D cr ds ad) 4 0 0) (hR : ZRetV Γ cX13_offer 0 0 post) (t0 : Int) (t1 : Int) (σ : ZS) (h : wm_offer_103 post t0 t1 σ) : Z Γ 0 0 σ [] 103 [] [.int (iz t0), .int (iz t1), .ref (ad 0)] := by
  refine z_ior X dX13_offer_103 ?_
  refine pM_46 X K dX13_offer_104 (fun σ1 eσ1 => ?_)
  have h := h σ1 eσ1
  exact hR _ _ _ _ _ _ dX13_offer_107 (Nat.le_refl 0) (Nat.le_refl 0) h
set_option maxRecDepth 100000 in
theorem wkm_offer_62 {Γ : ZG} {l : Launch} {D : va_G} {cr : List vw_C} {ds : Nat → ClassId} {ad : Nat → Nat} {post : ZS → Prop} (X : ZX Γ cX13_offer RX13 1 0) (K : ZCap Γ l (ΘM D cr ds ad) 4 0 0) (hR : ZRetV Γ cX13_offer 0 0 post) (v1 : Int) (t0 : Int) (t1 : Int) (σ : ZS) (h : wm_offer_62 post v1 t0 t1 σ) : Z Γ 0 0 σ [] 62 [(0, .ref (ad 0)), (1, .int (iz v1))] [.int (iz t0), .int (iz t1), .ref (ad 0)] := by
  refine z_ior X dX13_offer_62 ?_
  refine pM_46 X K dX13_offer_63 (fun σ1 eσ1 => ?_)
  have h := h σ1 eσ1
  refine z_aload_n X 0 dX13_offer_66 rfl ?_
  refine z_iload_n X 1 dX13_offer_67 rfl ?_
  refine pM_45 X K dX13_offer_68 (fun σ2 eσ2 => ?_)
  have h := h σ2 eσ2
  refine z_goto (tgt := 107) X dX13_offer_71 rfl ?_
  exact hR _ _ _ _ _ _ dX13_offer_107 (Nat.le_refl 0) (Nat.le_refl 0) h
set_option maxRecDepth 100000 in
theorem mt_offer (l : Launch) (D : va_G) (cr : List vw_C) (ds : Nat → ClassId) (ad : Nat → Nat) (a0 : Int) (a1 : Int) (σ : ZS) (post : ZS → Prop) (h : wm_offer a0 a1 σ post) : ZMetV l (ΘM D cr ds ad) yX13_offer cX13_offer 4 1 0 0 0 [.ref (ad 0), .int (iz a0), .int (iz a1)] σ post := by
  refine ZMetV.of (by decide) (Nat.le_of_ble_eq_true rfl) (fun Γ X K hR => ?_)
  have X : ZX Γ cX13_offer RX13 1 0 := X
  refine z_sub [0, 1, 2] (lv' := [(0, .ref (ad 0)), (1, .int (iz a0)), (2, .int (iz a1))]) rfl ?_
  refine z_iload_n X 2 dX13_offer_0 rfl ?_
  obtain ⟨i1, h⟩ := h
  refine z_if_ne X 5 dX13_offer_1 rfl i1 (fun c2 => ?_) (fun c2 => ?_)
  · have h := h.1 c2
    refine z_aload_n X 0 dX13_offer_5 rfl ?_
    refine gM_46 X K dX13_offer_6 ?_
    obtain ⟨i3, h⟩ := h
    refine z_if_ne X 25 dX13_offer_9 rfl i3 (fun c4 => ?_) (fun c4 => ?_)
    · have h := h.1 c4
      refine z_iload_n X 1 dX13_offer_25 rfl ?_
      refine z_aload_n X 0 dX13_offer_26 rfl ?_
      refine gM_45 X K dX13_offer_27 ?_
      obtain ⟨i5, h⟩ := h
      obtain ⟨i6, h⟩ := h
      refine z_icmp_ge X 74 dX13_offer_30 rfl i5 i6 (fun c7 => ?_) (fun c7 => ?_)
      · have h := h.1 c7
        refine z_iload_n X 1 dX13_offer_74 rfl ?_
        refine z_aload_n X 0 dX13_offer_75 rfl ?_
        refine gM_45 X K dX13_offer_76 ?_
        refine z_isub X dX13_offer_79 ?_
        refine z_topi (fun v3_8 ev3_8 => ?_)
        have h := h v3_8 ev3_8
        refine z_istore_nK X K (lv' := [(3, .int (iz v3_8)), (0, .ref (ad 0)), (1, .int (iz a0)), (2, .int (iz a1))]) dX13_offer_80 rfl rfl ?_
        refine z_aload_n X 1 dX13_offer_81 rfl ?_
        refine z_aload_n X 1 dX13_offer_82 rfl ?_
        refine gM_46 X K dX13_offer_83 ?_
        refine z_iload_n X 0 dX13_offer_86 rfl ?_
        refine z_bipush X 31 dX13_offer_87 rfl ?_
        obtain ⟨i9, h⟩ := h
        refine z_icmp_ge X 102 dX13_offer_89 rfl i9 (by decide) (fun c10 => ?_) (fun c10 => ?_)
        · have h := h.1 c10
          refine z_iconst X 0 dX13_offer_102 ?_
          exact z_sub [] rfl (wkm_offer_103 X K hR _ _ _ h)
        · have h := h.2 c10
          refine z_iload_n X 3 dX13_offer_92 rfl ?_
          refine z_iload_n X 0 dX13_offer_93 rfl ?_
          refine z_ishl X dX13_offer_94 ?_
          refine z_ldcw X 2147483647 q1600 rfl dX13_offer_95 ?_
          refine z_iand X dX13_offer_98 ?_
          refine z_goto (tgt := 103) X dX13_offer_99 rfl ?_
          exact z_sub [] rfl (wkm_offer_103 X K hR _ _ _ h)
      · have h := h.2 c7
        refine z_aload_n X 0 dX13_offer_33 rfl ?_
        refine gM_45 X K dX13_offer_34 ?_
        refine z_iload_n X 1 dX13_offer_37 rfl ?_
        refine z_isub X dX13_offer_38 ?_
        refine z_topi (fun v3_11 ev3_11 => ?_)
        have h := h v3_11 ev3_11
        refine z_istore_nK X K (lv' := [(3, .int (iz v3_11)), (0, .ref (ad 0)), (1, .int (iz a0)), (2, .int (iz a1))]) dX13_offer_39 rfl rfl ?_
        refine z_aload_n X 1 dX13_offer_40 rfl ?_
        refine z_iload_n X 3 dX13_offer_41 rfl ?_
        refine z_iload_n X 0 dX13_offer_42 rfl ?_
        refine z_bipush X 31 dX13_offer_43 rfl ?_
        obtain ⟨i12, h⟩ := h
        refine z_icmp_ge X 61 dX13_offer_45 rfl i12 (by decide) (fun c13 => ?_) (fun c13 => ?_)
        · have h := h.1 c13
          refine z_iconst X 0 dX13_offer_61 ?_
          exact z_sub [1, 2] rfl (wkm_offer_62 X K hR _ _ _ _ h)
        · have h := h.2 c13
          refine z_aload_n X 1 dX13_offer_48 rfl ?_
          refine gM_46 X K dX13_offer_49 ?_
          refine z_iload_n X 0 dX13_offer_52 rfl ?_
          refine z_ishl X dX13_offer_53 ?_
          refine z_ldcw X 2147483647 q1600 rfl dX13_offer_54 ?_
          refine z_iand X dX13_offer_57 ?_
          refine z_goto (tgt := 62) X dX13_offer_58 rfl ?_
          exact z_sub [1, 2] rfl (wkm_offer_62 X K hR _ _ _ _ h)
    · have h := h.2 c4
      refine z_aload_n X 0 dX13_offer_12 rfl ?_
      refine z_iload_n X 1 dX13_offer_13 rfl ?_
      refine pM_45 X K dX13_offer_14 (fun σ14 eσ14 => ?_)
      have h := h σ14 eσ14
      refine z_aload_n X 0 dX13_offer_17 rfl ?_
      refine z_iload_n X 2 dX13_offer_18 rfl ?_
      refine pM_46 X K dX13_offer_19 (fun σ15 eσ15 => ?_)
      have h := h σ15 eσ15
      refine z_goto (tgt := 107) X dX13_offer_22 rfl ?_
      exact hR _ _ _ _ _ _ dX13_offer_107 (Nat.le_refl 0) (Nat.le_refl 0) h
  · have h := h.2 c2
    exact hR _ _ _ _ _ _ dX13_offer_4 (Nat.le_refl 0) (Nat.le_refl 0) h
set_option maxRecDepth 100000 in
theorem clm_offer {Γ : ZG} {cc : ByteArray} {fr lo nL pc : Nat} {lv : List (Nat × Value)} {st : List Value} {l : Launch} {D : va_G} {cr : List vw_C} {ds : Nat → ClassId} {ad : Nat → Nat} {a0 : Int} {a1 : Int} {σ : ZS} {post : ZS → Prop} (X : ZX Γ cc RX13 fr lo) (K : ZCap Γ l (ΘM D cr ds ad) nL 0 0) (hrm : zroom 2 23 fr lo = true) (h : wm_offer a0 a1 σ post) (hst : (st.map fun v => v.category).sum ≤ 8) (d : decode cc pc = .ok (.invokevirtual 308, 3)) (kk : ∀ (σ' : ZS), post σ' → Z Γ 0 0 σ' [] (pc + 3) lv (st)) : Z Γ 0 0 σ [] pc lv (.int (iz a1) :: .int (iz a0) :: .ref (ad 0) :: st) :=
  z_callVV' (C := RX13) (q0 := 0) X K (mt_offer l D cr ds ad a0 a1 σ post h) (Nat.le_of_ble_eq_true rfl) rfl rfl rfl (lw_V q1596 q1598 qs78 q127 q1599) ⟨rfl, by decide, by decide, rfl⟩ (zroom_of hrm) ⟨Nat.zero_le _, Nat.zero_le _⟩ hst d rfl kk
/- X13_offerFrom -/
set_option maxRecDepth 100000 in
theorem wkm_offerFrom_64 {Γ : ZG} {l : Launch} {D : va_G} {cr : List vw_C} {ds : Nat → ClassId} {ad : Nat → Nat} {post : ZS → Prop} (X : ZX Γ cX13_offerFrom RX13 2 23) (K : ZCap Γ l (ΘM D cr ds ad) 6 0 0) (hR : ZRetV Γ cX13_offerFrom 0 0 post) (v2 : Int) (v4 : Int) (v5 : Int) (σ : ZS) (h : wm_offerFrom_64 post v2 v4 v5 σ) : Z Γ 0 0 σ [] 64 [(0, .ref (ad 0)), (2, .int (iz v2)), (4, .int (iz v4)), (5, .int (iz v5))] [] := by
  refine z_aload_n X 0 dX13_offerFrom_64 rfl ?_
  refine z_iload X 2 dX13_offerFrom_65 rfl ?_
  refine z_iload_n X 1 dX13_offerFrom_67 rfl ?_
  refine z_iadd X dX13_offerFrom_68 ?_
  refine z_iload X 3 dX13_offerFrom_69 rfl ?_
  refine clm_offer X K rfl h (Nat.le_of_ble_eq_true rfl) dX13_offerFrom_71 (fun σ1 h => ?_)
  exact hR _ _ _ _ _ _ dX13_offerFrom_74 (Nat.le_refl 0) (Nat.le_refl 0) h
set_option maxRecDepth 100000 in
theorem wkm_offerFrom_52 {Γ : ZG} {l : Launch} {D : va_G} {cr : List vw_C} {ds : Nat → ClassId} {ad : Nat → Nat} {post : ZS → Prop} (X : ZX Γ cX13_offerFrom RX13 2 23) (K : ZCap Γ l (ΘM D cr ds ad) 6 0 0) (hR : ZRetV Γ cX13_offerFrom 0 0 post) {C34 : Int × Int × Int × Int × ZS → Prop} (hC34 : ∀ (v2 : Int) (v3 : Int) (v4 : Int) (v5 : Int) (σ : ZS), C34 (v2, v3, v4, v5, σ) → Z Γ 0 0 σ [] 34 [(0, .ref (ad 0)), (2, .int (iz v2)), (3, .int (iz v3)), (4, .int (iz v4)), (5, .int (iz v5))] []) (v2 : Int) (v3 : Int) (v4 : Int) (v5 : Int) (σ : ZS) (h : wm_offerFrom_52 C34 post v2 v3 v4 v5 σ) : Z Γ 0 0 σ [] 52 [(0, .ref (ad 0)), (2, .int (iz v2)), (3, .int (iz v3)), (4, .int (iz v4)), (5, .int (iz v5))] [] := by
  refine z_iload X 4 dX13_offerFrom_52 rfl ?_
  refine z_iconst X 1 dX13_offerFrom_54 ?_
  obtain ⟨i1, h⟩ := h
  refine z_ishrm X 1 (M := 2) rfl rfl rfl dX13_offerFrom_55 i1 ?_
  refine z_topi (fun v5_2 ev5_2 => ?_)
  have h := h v5_2 ev5_2
  refine z_istoreK X K (lv' := [(5, .int (iz v5_2)), (0, .ref (ad 0)), (2, .int (iz v2)), (3, .int (iz v3)), (4, .int (iz v4))]) dX13_offerFrom_56 rfl rfl ?_
  refine z_iincK X K 4 (lv' := [(4, .int (iz (v4 + 1))), (5, .int (iz v5_2)), (0, .ref (ad 0)), (2, .int (iz v2)), (3, .int (iz v3))]) dX13_offerFrom_58 rfl rfl rfl ?_
  refine z_goto (tgt := 34) X dX13_offerFrom_61 rfl ?_
  exact z_sub [2, 3, 4, 0, 1] rfl (hC34 _ _ _ _ _ h)
set_option maxRecDepth 100000 in
theorem wkm_offerFrom_34 {Γ : ZG} {l : Launch} {D : va_G} {cr : List vw_C} {ds : Nat → ClassId} {ad : Nat → Nat} {post : ZS → Prop} (X : ZX Γ cX13_offerFrom RX13 2 23) (K : ZCap Γ l (ΘM D cr ds ad) 6 0 0) (hR : ZRetV Γ cX13_offerFrom 0 0 post) : ∀ (N : Nat) (v2 : Int) (v3 : Int) (v4 : Int) (v5 : Int) (σ : ZS), zfix (wbm_offerFrom_34 post) N (v2, v3, v4, v5, σ) → Z Γ 0 0 σ [] 34 [(0, .ref (ad 0)), (2, .int (iz v2)), (3, .int (iz v3)), (4, .int (iz v4)), (5, .int (iz v5))] [] := by
  intro N
  induction N with
  | zero => intro v2 v3 v4 v5 σ h; exact False.elim h
  | succ N ih =>
    intro v2 v3 v4 v5 σ h
    have h : wbm_offerFrom_34 post (zfix (wbm_offerFrom_34 post) N) (v2, v3, v4, v5, σ) := h
    have hC34 := ih
    clear ih
    generalize zfix (wbm_offerFrom_34 post) N = C34 at h hC34
    dsimp only [wbm_offerFrom_34] at h
    refine z_iload X 4 dX13_offerFrom_34 rfl ?_
    obtain ⟨i1, h⟩ := h
    refine z_if_eq X 64 dX13_offerFrom_36 rfl i1 (fun c2 => ?_) (fun c2 => ?_)
    · have h := h.1 c2
      exact z_sub [0, 1, 3, 4] rfl (wkm_offerFrom_64 X K hR _ _ _ _ h)
    · have h := h.2 c2
      refine z_iload X 3 dX13_offerFrom_39 rfl ?_
      refine z_iload_n X 2 dX13_offerFrom_41 rfl ?_
      obtain ⟨i3, h⟩ := h
      obtain ⟨i4, h⟩ := h
      refine z_icmp_lt X 52 dX13_offerFrom_42 rfl i3 i4 (fun c5 => ?_) (fun c5 => ?_)
      · have h := h.1 c5
        exact z_sub [0, 1, 2, 3, 4] rfl (wkm_offerFrom_52 X K hR hC34 _ _ _ _ _ h)
      · have h := h.2 c5
        refine z_iload X 4 dX13_offerFrom_45 rfl ?_
        refine z_iconst X 1 dX13_offerFrom_47 ?_
        refine z_iandm X 1 (M := 2) rfl rfl rfl dX13_offerFrom_48 ?_
        obtain ⟨i6, h⟩ := h
        refine z_if_ne X 64 dX13_offerFrom_49 rfl i6 (fun c7 => ?_) (fun c7 => ?_)
        · have h := h.1 c7
          exact z_sub [0, 1, 3, 4] rfl (wkm_offerFrom_64 X K hR _ _ _ _ h)
        · have h := h.2 c7
          exact z_sub [0, 1, 2, 3, 4] rfl (wkm_offerFrom_52 X K hR hC34 _ _ _ _ _ h)
set_option maxRecDepth 100000 in
theorem mt_offerFrom (l : Launch) (D : va_G) (cr : List vw_C) (ds : Nat → ClassId) (ad : Nat → Nat) (a0 : Int) (a1 : Int) (a2 : Int) (σ : ZS) (post : ZS → Prop) (h : wm_offerFrom a0 a1 a2 σ post) : ZMetV l (ΘM D cr ds ad) yX13_offerFrom cX13_offerFrom 6 2 23 0 0 [.ref (ad 0), .int (iz a0), .int (iz a1), .int (iz a2)] σ post := by
  refine ZMetV.of (by decide) (Nat.le_of_ble_eq_true rfl) (fun Γ X K hR => ?_)
  have X : ZX Γ cX13_offerFrom RX13 2 23 := X
  refine z_sub [0, 1, 2, 3] (lv' := [(0, .ref (ad 0)), (1, .int (iz a0)), (2, .int (iz a1)), (3, .int (iz a2))]) rfl ?_
  refine z_aload_n X 0 dX13_offerFrom_0 rfl ?_
  refine gM_41 X K dX13_offerFrom_1 ?_
  refine z_sipush X 3201 dX13_offerFrom_4 rfl ?_
  refine z_aload_n X 0 dX13_offerFrom_7 rfl ?_
  refine gM_49 X K dX13_offerFrom_8 ?_
  refine z_imul X dX13_offerFrom_11 ?_
  refine z_iload_n X 1 dX13_offerFrom_12 rfl ?_
  refine z_iadd X dX13_offerFrom_13 ?_
  obtain ⟨x1, h⟩ := h
  refine aM_23 X K dX13_offerFrom_14 x1 ?_
  refine z_topi (fun v4_2 ev4_2 => ?_)
  have h := h v4_2 ev4_2
  refine z_istoreK X K (lv' := [(4, .int (iz v4_2)), (0, .ref (ad 0)), (1, .int (iz a0)), (2, .int (iz a1)), (3, .int (iz a2))]) dX13_offerFrom_15 rfl rfl ?_
  refine z_aload_n X 1 dX13_offerFrom_17 rfl ?_
  refine gM_42 X K dX13_offerFrom_18 ?_
  refine z_sipush X 3201 dX13_offerFrom_21 rfl ?_
  refine z_aload_n X 1 dX13_offerFrom_24 rfl ?_
  refine gM_49 X K dX13_offerFrom_25 ?_
  refine z_imul X dX13_offerFrom_28 ?_
  refine z_iload_n X 2 dX13_offerFrom_29 rfl ?_
  refine z_iadd X dX13_offerFrom_30 ?_
  refine aM_24 X K dX13_offerFrom_31 x1 ?_
  refine z_topi (fun v5_3 ev5_3 => ?_)
  have h := h v5_3 ev5_3
  refine z_istoreK X K (lv' := [(5, .int (iz v5_3)), (4, .int (iz v4_2)), (0, .ref (ad 0)), (1, .int (iz a0)), (2, .int (iz a1)), (3, .int (iz a2))]) dX13_offerFrom_32 rfl rfl ?_
  obtain ⟨N, h⟩ := h
  exact z_sub [2, 4, 5, 1, 0] rfl (wkm_offerFrom_34 X K hR N _ _ _ _ _ h)
set_option maxRecDepth 100000 in
theorem clm_offerFrom {Γ : ZG} {cc : ByteArray} {fr lo nL pc : Nat} {lv : List (Nat × Value)} {st : List Value} {l : Launch} {D : va_G} {cr : List vw_C} {ds : Nat → ClassId} {ad : Nat → Nat} {a0 : Int} {a1 : Int} {a2 : Int} {σ : ZS} {post : ZS → Prop} (X : ZX Γ cc RX13 fr lo) (K : ZCap Γ l (ΘM D cr ds ad) nL 0 0) (hrm : zroom 3 48 fr lo = true) (h : wm_offerFrom a0 a1 a2 σ post) (hst : (st.map fun v => v.category).sum ≤ 8) (d : decode cc pc = .ok (.invokevirtual 326, 3)) (kk : ∀ (σ' : ZS), post σ' → Z Γ 0 0 σ' [] (pc + 3) lv (st)) : Z Γ 0 0 σ [] pc lv (.int (iz a2) :: .int (iz a1) :: .int (iz a0) :: .ref (ad 0) :: st) :=
  z_callVV' (C := RX13) (q0 := 0) X K (mt_offerFrom l D cr ds ad a0 a1 a2 σ post h) (Nat.le_of_ble_eq_true rfl) rfl rfl rfl (lw_V q1608 q1610 qs80 q127 q1611) ⟨rfl, by decide, by decide, rfl⟩ (zroom_of hrm) ⟨Nat.zero_le _, Nat.zero_le _⟩ hst d rfl kk
/- X13_workAscii -/
set_option maxRecDepth 100000 in
theorem wkm_workAscii_282 {Γ : ZG} {l : Launch} {D : va_G} {cr : List vw_C} {ds : Nat → ClassId} {ad : Nat → Nat} {post : ZS → Prop} (X : ZX Γ cX13_workAscii RX13 4 69) (K : ZCap Γ l (ΘM D cr ds ad) 5 0 0) (hR : ZRetV Γ cX13_workAscii 0 0 post) (v1 : Int) (σ : ZS) (h : wm_workAscii_282 post v1 σ) : Z Γ 0 0 σ [] 282 [(0, .ref (ad 0)), (1, .int (iz v1))] [] := by
  refine z_aload_n X 0 dX13_workAscii_282 rfl ?_
  refine gM_41 X K dX13_workAscii_283 ?_
  refine z_sipush X 3201 dX13_workAscii_286 rfl ?_
  refine z_aload_n X 0 dX13_workAscii_289 rfl ?_
  refine gM_49 X K dX13_workAscii_290 ?_
  refine z_imul X dX13_workAscii_293 ?_
  refine z_iload_n X 1 dX13_workAscii_294 rfl ?_
  refine z_iadd X dX13_workAscii_295 ?_
  refine z_aload_n X 0 dX13_workAscii_296 rfl ?_
  refine gM_45 X K dX13_workAscii_297 ?_
  obtain ⟨x1, h⟩ := h
  refine sM_23 X K dX13_workAscii_300 x1 (fun σ2 eσ2 => ?_)
  have h := h σ2 eσ2
  refine z_aload_n X 0 dX13_workAscii_301 rfl ?_
  refine gM_42 X K dX13_workAscii_302 ?_
  refine z_sipush X 3201 dX13_workAscii_305 rfl ?_
  refine z_aload_n X 0 dX13_workAscii_308 rfl ?_
  refine gM_49 X K dX13_workAscii_309 ?_
  refine z_imul X dX13_workAscii_312 ?_
  refine z_iload_n X 1 dX13_workAscii_313 rfl ?_
  refine z_iadd X dX13_workAscii_314 ?_
  refine z_aload_n X 0 dX13_workAscii_315 rfl ?_
  refine gM_46 X K dX13_workAscii_316 ?_
  obtain ⟨x3, h⟩ := h
  refine sM_24 X K dX13_workAscii_319 x3 (fun σ4 eσ4 => ?_)
  have h := h σ4 eσ4
  exact hR _ _ _ _ _ _ dX13_workAscii_320 (Nat.le_refl 0) (Nat.le_refl 0) h
set_option maxRecDepth 100000 in
theorem wkm_workAscii_255 {Γ : ZG} {l : Launch} {D : va_G} {cr : List vw_C} {ds : Nat → ClassId} {ad : Nat → Nat} {post : ZS → Prop} (X : ZX Γ cX13_workAscii RX13 4 69) (K : ZCap Γ l (ΘM D cr ds ad) 5 0 0) (hR : ZRetV Γ cX13_workAscii 0 0 post) (v1 : Int) (σ : ZS) (h : wm_workAscii_255 post v1 σ) : Z Γ 0 0 σ [] 255 [(0, .ref (ad 0)), (1, .int (iz v1))] [] := by
  refine z_aload_n X 0 dX13_workAscii_255 rfl ?_
  refine gM_47 X K dX13_workAscii_256 ?_
  obtain ⟨i1, h⟩ := h
  refine z_if_ne X 282 dX13_workAscii_259 rfl i1 (fun c2 => ?_) (fun c2 => ?_)
  · have h := h.1 c2
    exact z_sub [0, 1] rfl (wkm_workAscii_282 X K hR _ _ h)
  · have h := h.2 c2
    refine z_aload_n X 0 dX13_workAscii_262 rfl ?_
    refine gM_48 X K dX13_workAscii_263 ?_
    obtain ⟨i3, h⟩ := h
    refine z_if_ne X 282 dX13_workAscii_266 rfl i3 (fun c4 => ?_) (fun c4 => ?_)
    · have h := h.1 c4
      exact z_sub [0, 1] rfl (wkm_workAscii_282 X K hR _ _ h)
    · have h := h.2 c4
      refine z_aload_n X 0 dX13_workAscii_269 rfl ?_
      refine z_iconst X 2 dX13_workAscii_270 ?_
      refine z_aload_n X 0 dX13_workAscii_271 rfl ?_
      refine gM_11 X K dX13_workAscii_272 ?_
      refine z_iadd X dX13_workAscii_275 ?_
      refine z_iload_n X 1 dX13_workAscii_276 rfl ?_
      refine z_isub X dX13_workAscii_277 ?_
      refine z_iconst X 1 dX13_workAscii_278 ?_
      refine clm_offer X K rfl h (Nat.le_of_ble_eq_true rfl) dX13_workAscii_279 (fun σ5 h => ?_)
      exact z_sub [0, 1] rfl (wkm_workAscii_282 X K hR _ _ h)
set_option maxRecDepth 100000 in
theorem wkm_workAscii_209 {Γ : ZG} {l : Launch} {D : va_G} {cr : List vw_C} {ds : Nat → ClassId} {ad : Nat → Nat} {post : ZS → Prop} (X : ZX Γ cX13_workAscii RX13 4 69) (K : ZCap Γ l (ΘM D cr ds ad) 5 0 0) (hR : ZRetV Γ cX13_workAscii 0 0 post) {C179 : Int × Int × ZS → Prop} (hC179 : ∀ (v1 : Int) (v2 : Int) (σ : ZS), C179 (v1, v2, σ) → Z Γ 0 0 σ [] 179 [(0, .ref (ad 0)), (1, .int (iz v1)), (2, .int (iz v2))] []) (v1 : Int) (v2 : Int) (t0 : Int) (t1 : Int) (σ : ZS) (h : wm_workAscii_209 C179 post v1 v2 t0 t1 σ) : Z Γ 0 0 σ [] 209 [(0, .ref (ad 0)), (1, .int (iz v1)), (2, .int (iz v2))] [.int (iz t0), .int (iz t1)] := by
  refine z_iadd X dX13_workAscii_209 ?_
  refine z_topi (fun v3_1 ev3_1 => ?_)
  have h := h v3_1 ev3_1
  refine z_istore_nK X K (lv' := [(3, .int (iz v3_1)), (0, .ref (ad 0)), (1, .int (iz v1)), (2, .int (iz v2))]) dX13_workAscii_210 rfl rfl ?_
  refine z_iload_n X 0 dX13_workAscii_211 rfl ?_
  refine z_aload_n X 1 dX13_workAscii_212 rfl ?_
  refine gM_41 X K dX13_workAscii_213 ?_
  refine z_sipush X 3201 dX13_workAscii_216 rfl ?_
  refine z_aload_n X 1 dX13_workAscii_219 rfl ?_
  refine gM_49 X K dX13_workAscii_220 ?_
  refine z_imul X dX13_workAscii_223 ?_
  refine z_iload_n X 2 dX13_workAscii_224 rfl ?_
  refine z_iadd X dX13_workAscii_225 ?_
  refine z_iload_n X 3 dX13_workAscii_226 rfl ?_
  refine z_iadd X dX13_workAscii_227 ?_
  obtain ⟨x2, h⟩ := h
  refine aM_23 X K dX13_workAscii_228 x2 ?_
  refine z_iadd X dX13_workAscii_229 ?_
  refine z_aload_n X 1 dX13_workAscii_230 rfl ?_
  refine gM_45 X K dX13_workAscii_231 ?_
  refine z_bipush X 31 dX13_workAscii_234 rfl ?_
  refine z_iadd X dX13_workAscii_236 ?_
  obtain ⟨i3, h⟩ := h
  obtain ⟨i4, h⟩ := h
  refine z_icmp_ge X 249 dX13_workAscii_237 rfl i3 i4 (fun c5 => ?_) (fun c5 => ?_)
  · have h := h.1 c5
    refine z_iincK X K 3 (lv' := [(2, .int (iz (v2 + 1))), (3, .int (iz v3_1)), (0, .ref (ad 0)), (1, .int (iz v1))]) dX13_workAscii_249 rfl rfl rfl ?_
    refine z_goto (tgt := 179) X dX13_workAscii_252 rfl ?_
    exact z_sub [2, 3, 0] rfl (hC179 _ _ _ h)
  · have h := h.2 c5
    refine z_aload_n X 1 dX13_workAscii_240 rfl ?_
    refine z_iload_n X 2 dX13_workAscii_241 rfl ?_
    refine z_iload_n X 3 dX13_workAscii_242 rfl ?_
    refine z_iadd X dX13_workAscii_243 ?_
    refine z_iload_n X 0 dX13_workAscii_244 rfl ?_
    refine z_iconst X 0 dX13_workAscii_245 ?_
    refine clm_offerFrom X K rfl h (Nat.le_of_ble_eq_true rfl) dX13_workAscii_246 (fun σ6 h => ?_)
    refine z_iincK X K 3 (lv' := [(2, .int (iz (v2 + 1))), (3, .int (iz v3_1)), (0, .ref (ad 0)), (1, .int (iz v1))]) dX13_workAscii_249 rfl rfl rfl ?_
    refine z_goto (tgt := 179) X dX13_workAscii_252 rfl ?_
    exact z_sub [2, 3, 0] rfl (hC179 _ _ _ h)
set_option maxRecDepth 100000 in
theorem wkm_workAscii_179 {Γ : ZG} {l : Launch} {D : va_G} {cr : List vw_C} {ds : Nat → ClassId} {ad : Nat → Nat} {post : ZS → Prop} (X : ZX Γ cX13_workAscii RX13 4 69) (K : ZCap Γ l (ΘM D cr ds ad) 5 0 0) (hR : ZRetV Γ cX13_workAscii 0 0 post) : ∀ (N : Nat) (v1 : Int) (v2 : Int) (σ : ZS), zfix (wbm_workAscii_179 post) N (v1, v2, σ) → Z Γ 0 0 σ [] 179 [(0, .ref (ad 0)), (1, .int (iz v1)), (2, .int (iz v2))] [] := by
  intro N
  induction N with
  | zero => intro v1 v2 σ h; exact False.elim h
  | succ N ih =>
    intro v1 v2 σ h
    have h : wbm_workAscii_179 post (zfix (wbm_workAscii_179 post) N) (v1, v2, σ) := h
    have hC179 := ih
    clear ih
    generalize zfix (wbm_workAscii_179 post) N = C179 at h hC179
    dsimp only [wbm_workAscii_179] at h
    refine z_iload_n X 2 dX13_workAscii_179 rfl ?_
    refine z_aload_n X 0 dX13_workAscii_180 rfl ?_
    refine gM_11 X K dX13_workAscii_181 ?_
    refine z_iload_n X 1 dX13_workAscii_184 rfl ?_
    refine z_isub X dX13_workAscii_185 ?_
    obtain ⟨i1, h⟩ := h
    obtain ⟨i2, h⟩ := h
    refine z_icmp_gt X 255 dX13_workAscii_186 rfl i1 i2 (fun c3 => ?_) (fun c3 => ?_)
    · have h := h.1 c3
      exact z_sub [0, 1] rfl (wkm_workAscii_255 X K hR _ _ h)
    · have h := h.2 c3
      refine z_iload_n X 2 dX13_workAscii_189 rfl ?_
      refine z_sipush X 1755 dX13_workAscii_190 rfl ?_
      refine z_icmp_gt X 255 dX13_workAscii_193 rfl i1 (by decide) (fun c4 => ?_) (fun c4 => ?_)
      · have h := h.1 c4
        exact z_sub [0, 1] rfl (wkm_workAscii_255 X K hR _ _ h)
      · have h := h.2 c4
        refine z_iload_n X 2 dX13_workAscii_196 rfl ?_
        refine z_iload_n X 2 dX13_workAscii_197 rfl ?_
        refine z_sipush X 250 dX13_workAscii_198 rfl ?_
        refine z_icmp_ge X 208 dX13_workAscii_201 rfl i1 (by decide) (fun c5 => ?_) (fun c5 => ?_)
        · have h := h.1 c5
          refine z_iconst X 3 dX13_workAscii_208 ?_
          exact z_sub [0, 1, 2] rfl (wkm_workAscii_209 X K hR hC179 _ _ _ _ _ h)
        · have h := h.2 c5
          refine z_iconst X 2 dX13_workAscii_204 ?_
          refine z_goto (tgt := 209) X dX13_workAscii_205 rfl ?_
          exact z_sub [0, 1, 2] rfl (wkm_workAscii_209 X K hR hC179 _ _ _ _ _ h)
set_option maxRecDepth 100000 in
theorem wkm_workAscii_177 {Γ : ZG} {l : Launch} {D : va_G} {cr : List vw_C} {ds : Nat → ClassId} {ad : Nat → Nat} {post : ZS → Prop} (X : ZX Γ cX13_workAscii RX13 4 69) (K : ZCap Γ l (ΘM D cr ds ad) 5 0 0) (hR : ZRetV Γ cX13_workAscii 0 0 post) (v1 : Int) (σ : ZS) (h : wm_workAscii_177 post v1 σ) : Z Γ 0 0 σ [] 177 [(0, .ref (ad 0)), (1, .int (iz v1))] [] := by
  refine z_iconst X 1 dX13_workAscii_177 ?_
  refine z_istore_nK X K (lv' := [(2, .int (iz 1)), (0, .ref (ad 0)), (1, .int (iz v1))]) dX13_workAscii_178 rfl rfl ?_
  obtain ⟨N, h⟩ := h
  exact z_sub [1, 2, 0] rfl (wkm_workAscii_179 X K hR N _ _ _ h)
set_option maxRecDepth 100000 in
theorem wkm_workAscii_136 {Γ : ZG} {l : Launch} {D : va_G} {cr : List vw_C} {ds : Nat → ClassId} {ad : Nat → Nat} {post : ZS → Prop} (X : ZX Γ cX13_workAscii RX13 4 69) (K : ZCap Γ l (ΘM D cr ds ad) 5 0 0) (hR : ZRetV Γ cX13_workAscii 0 0 post) {C65 : Int × Int × ZS → Prop} (hC65 : ∀ (v1 : Int) (v2 : Int) (σ : ZS), C65 (v1, v2, σ) → Z Γ 0 0 σ [] 65 [(0, .ref (ad 0)), (1, .int (iz v1)), (2, .int (iz v2))] []) (v1 : Int) (v2 : Int) (t0 : Int) (t1 : Int) (σ : ZS) (h : wm_workAscii_136 C65 post v1 v2 t0 t1 σ) : Z Γ 0 0 σ [] 136 [(0, .ref (ad 0)), (1, .int (iz v1)), (2, .int (iz v2))] [.int (iz t0), .int (iz t1), .ref (ad 0)] := by
  refine clm_offer X K rfl h (Nat.le_of_ble_eq_true rfl) dX13_workAscii_136 (fun σ1 h => ?_)
  refine z_iincK X K 2 (lv' := [(2, .int (iz (v2 + 1))), (0, .ref (ad 0)), (1, .int (iz v1))]) dX13_workAscii_139 rfl rfl rfl ?_
  refine z_goto (tgt := 65) X dX13_workAscii_142 rfl ?_
  exact z_sub [1, 2, 0] rfl (hC65 _ _ _ h)
set_option maxRecDepth 100000 in
theorem wkm_workAscii_121 {Γ : ZG} {l : Launch} {D : va_G} {cr : List vw_C} {ds : Nat → ClassId} {ad : Nat → Nat} {post : ZS → Prop} (X : ZX Γ cX13_workAscii RX13 4 69) (K : ZCap Γ l (ΘM D cr ds ad) 5 0 0) (hR : ZRetV Γ cX13_workAscii 0 0 post) {C65 : Int × Int × ZS → Prop} (hC65 : ∀ (v1 : Int) (v2 : Int) (σ : ZS), C65 (v1, v2, σ) → Z Γ 0 0 σ [] 65 [(0, .ref (ad 0)), (1, .int (iz v1)), (2, .int (iz v2))] []) (v1 : Int) (v2 : Int) (v3 : Int) (v4 : Int) (t0 : Int) (σ : ZS) (h : wm_workAscii_121 C65 post v1 v2 v3 v4 t0 σ) : Z Γ 0 0 σ [] 121 [(0, .ref (ad 0)), (1, .int (iz v1)), (2, .int (iz v2)), (3, .int (iz v3)), (4, .int (iz v4))] [.int (iz t0), .ref (ad 0)] := by
  refine z_iload_n X 3 dX13_workAscii_121 rfl ?_
  obtain ⟨i1, h⟩ := h
  refine z_if_ne X 129 dX13_workAscii_122 rfl i1 (fun c2 => ?_) (fun c2 => ?_)
  · have h := h.1 c2
    refine z_aload_n X 0 dX13_workAscii_129 rfl ?_
    refine gM_44 X K dX13_workAscii_130 ?_
    refine z_iload X 4 dX13_workAscii_133 rfl ?_
    obtain ⟨x3, h⟩ := h
    refine aM_26 X K dX13_workAscii_135 x3 ?_
    exact z_sub [0, 1, 2] rfl (wkm_workAscii_136 X K hR hC65 _ _ _ _ _ h)
  · have h := h.2 c2
    refine z_iconst X 0 dX13_workAscii_125 ?_
    refine z_goto (tgt := 136) X dX13_workAscii_126 rfl ?_
    exact z_sub [0, 1, 2] rfl (wkm_workAscii_136 X K hR hC65 _ _ _ _ _ h)
set_option maxRecDepth 100000 in
theorem wkm_workAscii_65 {Γ : ZG} {l : Launch} {D : va_G} {cr : List vw_C} {ds : Nat → ClassId} {ad : Nat → Nat} {post : ZS → Prop} (X : ZX Γ cX13_workAscii RX13 4 69) (K : ZCap Γ l (ΘM D cr ds ad) 5 0 0) (hR : ZRetV Γ cX13_workAscii 0 0 post) : ∀ (N : Nat) (v1 : Int) (v2 : Int) (σ : ZS), zfix (wbm_workAscii_65 post) N (v1, v2, σ) → Z Γ 0 0 σ [] 65 [(0, .ref (ad 0)), (1, .int (iz v1)), (2, .int (iz v2))] [] := by
  intro N
  induction N with
  | zero => intro v1 v2 σ h; exact False.elim h
  | succ N ih =>
    intro v1 v2 σ h
    have h : wbm_workAscii_65 post (zfix (wbm_workAscii_65 post) N) (v1, v2, σ) := h
    have hC65 := ih
    clear ih
    generalize zfix (wbm_workAscii_65 post) N = C65 at h hC65
    dsimp only [wbm_workAscii_65] at h
    refine z_iload_n X 2 dX13_workAscii_65 rfl ?_
    refine z_bipush X 6 dX13_workAscii_66 rfl ?_
    obtain ⟨i1, h⟩ := h
    refine z_icmp_gt X 145 dX13_workAscii_68 rfl i1 (by decide) (fun c2 => ?_) (fun c2 => ?_)
    · have h := h.1 c2
      refine z_aload_n X 0 dX13_workAscii_145 rfl ?_
      refine gM_9 X K dX13_workAscii_146 ?_
      refine z_iload_n X 1 dX13_workAscii_149 rfl ?_
      obtain ⟨x3, h⟩ := h
      refine aM_9 X K dX13_workAscii_150 x3 ?_
      refine clm_isSix X K rfl h (Nat.le_of_ble_eq_true rfl) dX13_workAscii_151 (fun r5 σ4 h => ?_)
      obtain ⟨b5, h⟩ := h
      have h := h b5
      refine z_if_eq X 177 dX13_workAscii_154 rfl (InR_b b5) (fun c7 => ?_) (fun c7 => ?_)
      · have h := h.1 c7
        exact z_sub [0, 1] rfl (wkm_workAscii_177 X K hR _ _ h)
      · have h := h.2 c7
        refine z_aload_n X 0 dX13_workAscii_157 rfl ?_
        refine z_iconst X 1 dX13_workAscii_158 ?_
        refine z_aload_n X 0 dX13_workAscii_159 rfl ?_
        refine gM_43 X K dX13_workAscii_160 ?_
        refine z_bipush X 23 dX13_workAscii_163 rfl ?_
        refine aM_25 X K dX13_workAscii_165 (by decide) ?_
        refine z_iadd X dX13_workAscii_166 ?_
        refine z_aload_n X 0 dX13_workAscii_167 rfl ?_
        refine gM_44 X K dX13_workAscii_168 ?_
        refine z_bipush X 23 dX13_workAscii_171 rfl ?_
        refine aM_26 X K dX13_workAscii_173 (by decide) ?_
        refine clm_offer X K rfl h (Nat.le_of_ble_eq_true rfl) dX13_workAscii_174 (fun σ8 h => ?_)
        exact z_sub [0, 1] rfl (wkm_workAscii_177 X K hR _ _ h)
    · have h := h.2 c2
      refine z_aload_n X 0 dX13_workAscii_71 rfl ?_
      refine z_iload_n X 2 dX13_workAscii_72 rfl ?_
      refine z_aload_n X 0 dX13_workAscii_73 rfl ?_
      refine gM_9 X K dX13_workAscii_74 ?_
      refine z_iload_n X 1 dX13_workAscii_77 rfl ?_
      obtain ⟨x9, h⟩ := h
      refine aM_9 X K dX13_workAscii_78 x9 ?_
      refine clm_spell X K rfl h (Nat.le_of_ble_eq_true rfl) dX13_workAscii_79 (fun r11 σ10 h => ?_)
      refine z_istore_nK X K (lv' := [(3, .int (iz r11)), (0, .ref (ad 0)), (1, .int (iz v1)), (2, .int (iz v2))]) dX13_workAscii_82 rfl rfl ?_
      refine z_bipush X 13 dX13_workAscii_83 rfl ?_
      refine z_iconst X 3 dX13_workAscii_85 ?_
      refine z_iload_n X 3 dX13_workAscii_86 rfl ?_
      refine z_iconst X 4 dX13_workAscii_87 ?_
      refine z_isub X dX13_workAscii_88 ?_
      refine z_imul X dX13_workAscii_89 ?_
      refine z_iadd X dX13_workAscii_90 ?_
      refine z_iload_n X 0 dX13_workAscii_91 rfl ?_
      refine z_iconst X 3 dX13_workAscii_92 ?_
      obtain ⟨i12, h⟩ := h
      obtain ⟨g13, h⟩ := h
      refine z_irem X dX13_workAscii_93 ⟨i12, (by decide), g13, (by decide)⟩ ?_
      refine z_iadd X dX13_workAscii_94 ?_
      refine z_topi (fun v4_14 ev4_14 => ?_)
      have h := h v4_14 ev4_14
      refine z_istoreK X K (lv' := [(4, .int (iz v4_14)), (3, .int (iz r11)), (0, .ref (ad 0)), (1, .int (iz v1)), (2, .int (iz v2))]) dX13_workAscii_95 rfl rfl ?_
      refine z_aload_n X 2 dX13_workAscii_97 rfl ?_
      refine z_iload_n X 1 dX13_workAscii_98 rfl ?_
      refine z_if_ne X 106 dX13_workAscii_99 rfl i12 (fun c15 => ?_) (fun c15 => ?_)
      · have h := h.1 c15
        refine z_iconst X 1 dX13_workAscii_106 ?_
        refine z_iconst X 2 dX13_workAscii_107 ?_
        refine z_iload_n X 1 dX13_workAscii_108 rfl ?_
        refine z_iconst X 3 dX13_workAscii_109 ?_
        refine z_idiv X dX13_workAscii_110 ⟨i12, (by decide), g13, (by decide)⟩ ?_
        refine z_imul X dX13_workAscii_111 ?_
        refine z_iadd X dX13_workAscii_112 ?_
        refine z_aload_n X 2 dX13_workAscii_113 rfl ?_
        refine gM_43 X K dX13_workAscii_114 ?_
        refine z_iload X 0 dX13_workAscii_117 rfl ?_
        obtain ⟨x16, h⟩ := h
        refine aM_25 X K dX13_workAscii_119 x16 ?_
        refine z_iadd X dX13_workAscii_120 ?_
        exact z_sub [2, 3, 4, 1, 0] rfl (wkm_workAscii_121 X K hR hC65 _ _ _ _ _ _ h)
      · have h := h.2 c15
        refine z_iconst X 0 dX13_workAscii_102 ?_
        refine z_goto (tgt := 121) X dX13_workAscii_103 rfl ?_
        exact z_sub [2, 3, 4, 1, 0] rfl (wkm_workAscii_121 X K hR hC65 _ _ _ _ _ _ h)
set_option maxRecDepth 100000 in
theorem wkm_workAscii_59 {Γ : ZG} {l : Launch} {D : va_G} {cr : List vw_C} {ds : Nat → ClassId} {ad : Nat → Nat} {post : ZS → Prop} (X : ZX Γ cX13_workAscii RX13 4 69) (K : ZCap Γ l (ΘM D cr ds ad) 5 0 0) (hR : ZRetV Γ cX13_workAscii 0 0 post) (v1 : Int) (t0 : Int) (t1 : Int) (σ : ZS) (h : wm_workAscii_59 post v1 t0 t1 σ) : Z Γ 0 0 σ [] 59 [(0, .ref (ad 0)), (1, .int (iz v1))] [.int (iz t0), .int (iz t1), .ref (ad 0)] := by
  refine z_iconst X 0 dX13_workAscii_59 ?_
  refine clm_offerFrom X K rfl h (Nat.le_of_ble_eq_true rfl) dX13_workAscii_60 (fun σ1 h => ?_)
  refine z_iconst X 4 dX13_workAscii_63 ?_
  refine z_istore_nK X K (lv' := [(2, .int (iz 4)), (0, .ref (ad 0)), (1, .int (iz v1))]) dX13_workAscii_64 rfl rfl ?_
  obtain ⟨N, h⟩ := h
  exact z_sub [1, 2, 0] rfl (wkm_workAscii_65 X K hR N _ _ _ h)
set_option maxRecDepth 100000 in
theorem wkm_workAscii_38 {Γ : ZG} {l : Launch} {D : va_G} {cr : List vw_C} {ds : Nat → ClassId} {ad : Nat → Nat} {post : ZS → Prop} (X : ZX Γ cX13_workAscii RX13 4 69) (K : ZCap Γ l (ΘM D cr ds ad) 5 0 0) (hR : ZRetV Γ cX13_workAscii 0 0 post) (v1 : Int) (σ : ZS) (h : wm_workAscii_38 post v1 σ) : Z Γ 0 0 σ [] 38 [(0, .ref (ad 0)), (1, .int (iz v1))] [] := by
  refine z_aload_n X 0 dX13_workAscii_38 rfl ?_
  refine z_iload_n X 1 dX13_workAscii_39 rfl ?_
  refine z_iconst X 1 dX13_workAscii_40 ?_
  refine z_iadd X dX13_workAscii_41 ?_
  refine z_aload_n X 0 dX13_workAscii_42 rfl ?_
  refine gM_9 X K dX13_workAscii_43 ?_
  refine z_iload_n X 1 dX13_workAscii_46 rfl ?_
  obtain ⟨x1, h⟩ := h
  refine aM_9 X K dX13_workAscii_47 x1 ?_
  refine z_sipush X 128 dX13_workAscii_48 rfl ?_
  obtain ⟨i2, h⟩ := h
  refine z_icmp_ge X 58 dX13_workAscii_51 rfl i2 (by decide) (fun c3 => ?_) (fun c3 => ?_)
  · have h := h.1 c3
    refine z_iconst X 2 dX13_workAscii_58 ?_
    exact z_sub [0, 1] rfl (wkm_workAscii_59 X K hR _ _ _ _ h)
  · have h := h.2 c3
    refine z_iconst X 1 dX13_workAscii_54 ?_
    refine z_goto (tgt := 59) X dX13_workAscii_55 rfl ?_
    exact z_sub [0, 1] rfl (wkm_workAscii_59 X K hR _ _ _ _ h)
set_option maxRecDepth 100000 in
theorem mt_workAscii (l : Launch) (D : va_G) (cr : List vw_C) (ds : Nat → ClassId) (ad : Nat → Nat) (a0 : Int) (σ : ZS) (post : ZS → Prop) (h : wm_workAscii a0 σ post) : ZMetV l (ΘM D cr ds ad) yX13_workAscii cX13_workAscii 5 4 69 0 0 [.ref (ad 0), .int (iz a0)] σ post := by
  refine ZMetV.of (by decide) (Nat.le_of_ble_eq_true rfl) (fun Γ X K hR => ?_)
  have X : ZX Γ cX13_workAscii RX13 4 69 := X
  refine z_sub [0, 1] (lv' := [(0, .ref (ad 0)), (1, .int (iz a0))]) rfl ?_
  refine z_aload_n X 0 dX13_workAscii_0 rfl ?_
  refine clm_none X K rfl h (Nat.le_of_ble_eq_true rfl) dX13_workAscii_1 (fun σ1 h => ?_)
  refine z_iload_n X 1 dX13_workAscii_4 rfl ?_
  refine z_aload_n X 0 dX13_workAscii_5 rfl ?_
  refine gM_11 X K dX13_workAscii_6 ?_
  obtain ⟨i2, h⟩ := h
  obtain ⟨i3, h⟩ := h
  refine z_icmp_ne X 21 dX13_workAscii_9 rfl i2 i3 (fun c4 => ?_) (fun c4 => ?_)
  · have h := h.1 c4
    refine z_aload_n X 0 dX13_workAscii_21 rfl ?_
    refine z_iload_n X 1 dX13_workAscii_22 rfl ?_
    refine clm_isDigits X K rfl h (Nat.le_of_ble_eq_true rfl) dX13_workAscii_23 (fun r6 σ5 h => ?_)
    obtain ⟨b6, h⟩ := h
    have h := h b6
    refine z_if_eq X 38 dX13_workAscii_26 rfl (InR_b b6) (fun c8 => ?_) (fun c8 => ?_)
    · have h := h.1 c8
      exact z_sub [0, 1] rfl (wkm_workAscii_38 X K hR _ _ h)
    · have h := h.2 c8
      refine z_aload_n X 0 dX13_workAscii_29 rfl ?_
      refine z_iload_n X 1 dX13_workAscii_30 rfl ?_
      refine z_iconst X 2 dX13_workAscii_31 ?_
      refine z_iadd X dX13_workAscii_32 ?_
      refine z_iconst X 1 dX13_workAscii_33 ?_
      refine z_iconst X 0 dX13_workAscii_34 ?_
      refine clm_offerFrom X K rfl h (Nat.le_of_ble_eq_true rfl) dX13_workAscii_35 (fun σ9 h => ?_)
      exact z_sub [0, 1] rfl (wkm_workAscii_38 X K hR _ _ h)
  · have h := h.2 c4
    refine z_aload_n X 0 dX13_workAscii_12 rfl ?_
    refine z_iconst X 0 dX13_workAscii_13 ?_
    refine z_iconst X 1 dX13_workAscii_14 ?_
    refine clm_offer X K rfl h (Nat.le_of_ble_eq_true rfl) dX13_workAscii_15 (fun σ10 h => ?_)
    refine z_goto (tgt := 282) X dX13_workAscii_18 rfl ?_
    exact z_sub [0, 1] rfl (wkm_workAscii_282 X K hR _ _ h)
set_option maxRecDepth 100000 in
theorem clm_workAscii {Γ : ZG} {cc : ByteArray} {fr lo nL pc : Nat} {lv : List (Nat × Value)} {st : List Value} {l : Launch} {D : va_G} {cr : List vw_C} {ds : Nat → ClassId} {ad : Nat → Nat} {a0 : Int} {σ : ZS} {post : ZS → Prop} (X : ZX Γ cc RX13 fr lo) (K : ZCap Γ l (ΘM D cr ds ad) nL 0 0) (hrm : zroom 5 93 fr lo = true) (h : wm_workAscii a0 σ post) (hst : (st.map fun v => v.category).sum ≤ 8) (d : decode cc pc = .ok (.invokevirtual 338, 3)) (kk : ∀ (σ' : ZS), post σ' → Z Γ 0 0 σ' [] (pc + 3) lv (st)) : Z Γ 0 0 σ [] pc lv (.int (iz a0) :: .ref (ad 0) :: st) :=
  z_callVV' (C := RX13) (q0 := 0) X K (mt_workAscii l D cr ds ad a0 σ post h) (Nat.le_of_ble_eq_true rfl) rfl rfl rfl (lw_V q1588 q1590 qs76 q127 q1591) ⟨rfl, by decide, by decide, rfl⟩ (zroom_of hrm) ⟨Nat.zero_le _, Nat.zero_le _⟩ hst d rfl kk
/- X13_offerOpen -/
set_option maxRecDepth 100000 in
theorem wkm_offerOpen_3 {Γ : ZG} {l : Launch} {D : va_G} {cr : List vw_C} {ds : Nat → ClassId} {ad : Nat → Nat} {post : ZS → Prop} (X : ZX Γ cX13_offerOpen RX13 4 64) (K : ZCap Γ l (ΘM D cr ds ad) 5 0 0) (hR : ZRetV Γ cX13_offerOpen 0 0 post) : ∀ (N : Nat) (v1 : Int) (v2 : Int) (v3 : Int) (v4 : Int) (σ : ZS), zfix (wbm_offerOpen_3 post) N (v1, v2, v3, v4, σ) → Z Γ 0 0 σ [] 3 [(0, .ref (ad 0)), (1, .int (iz v1)), (2, .int (iz v2)), (3, .int (iz v3)), (4, .int (iz v4))] [] := by
  intro N
  induction N with
  | zero => intro v1 v2 v3 v4 σ h; exact False.elim h
  | succ N ih =>
    intro v1 v2 v3 v4 σ h
    have h : wbm_offerOpen_3 post (zfix (wbm_offerOpen_3 post) N) (v1, v2, v3, v4, σ) := h
    have hC3 := ih
    clear ih
    generalize zfix (wbm_offerOpen_3 post) N = C3 at h hC3
    dsimp only [wbm_offerOpen_3] at h
    refine z_iload X 4 dX13_offerOpen_3 rfl ?_
    refine z_iload_n X 3 dX13_offerOpen_5 rfl ?_
    refine z_aload_n X 0 dX13_offerOpen_6 rfl ?_
    refine gM_47 X K dX13_offerOpen_7 ?_
    refine z_isub X dX13_offerOpen_10 ?_
    obtain ⟨i1, h⟩ := h
    obtain ⟨i2, h⟩ := h
    refine z_icmp_gt X 46 dX13_offerOpen_11 rfl i1 i2 (fun c3 => ?_) (fun c3 => ?_)
    · have h := h.1 c3
      exact hR _ _ _ _ _ _ dX13_offerOpen_46 (Nat.le_refl 0) (Nat.le_refl 0) h
    · have h := h.2 c3
      refine z_aload_n X 0 dX13_offerOpen_14 rfl ?_
      refine gM_48 X K dX13_offerOpen_15 ?_
      obtain ⟨i4, h⟩ := h
      refine z_if_ne X 46 dX13_offerOpen_18 rfl i4 (fun c5 => ?_) (fun c5 => ?_)
      · have h := h.1 c5
        exact hR _ _ _ _ _ _ dX13_offerOpen_46 (Nat.le_refl 0) (Nat.le_refl 0) h
      · have h := h.2 c5
        refine z_aload_n X 0 dX13_offerOpen_21 rfl ?_
        refine z_iload_n X 1 dX13_offerOpen_22 rfl ?_
        refine z_iload X 4 dX13_offerOpen_23 rfl ?_
        refine clm_isTail X K rfl h (Nat.le_of_ble_eq_true rfl) dX13_offerOpen_25 (fun r7 σ6 h => ?_)
        obtain ⟨b7, h⟩ := h
        have h := h b7
        refine z_if_eq X 40 dX13_offerOpen_28 rfl (InR_b b7) (fun c9 => ?_) (fun c9 => ?_)
        · have h := h.1 c9
          refine z_iincK X K 4 (lv' := [(4, .int (iz (v4 + 1))), (0, .ref (ad 0)), (1, .int (iz v1)), (2, .int (iz v2)), (3, .int (iz v3))]) dX13_offerOpen_40 rfl rfl rfl ?_
          refine z_goto (tgt := 3) X dX13_offerOpen_43 rfl ?_
          exact z_sub [1, 2, 3, 4, 0] rfl (hC3 _ _ _ _ _ h)
        · have h := h.2 c9
          refine z_aload_n X 0 dX13_offerOpen_31 rfl ?_
          refine z_iload X 4 dX13_offerOpen_32 rfl ?_
          refine z_iload_n X 2 dX13_offerOpen_34 rfl ?_
          refine z_iadd X dX13_offerOpen_35 ?_
          refine z_iconst X 1 dX13_offerOpen_36 ?_
          refine clm_offer X K rfl h (Nat.le_of_ble_eq_true rfl) dX13_offerOpen_37 (fun σ10 h => ?_)
          refine z_iincK X K 4 (lv' := [(4, .int (iz (v4 + 1))), (0, .ref (ad 0)), (1, .int (iz v1)), (2, .int (iz v2)), (3, .int (iz v3))]) dX13_offerOpen_40 rfl rfl rfl ?_
          refine z_goto (tgt := 3) X dX13_offerOpen_43 rfl ?_
          exact z_sub [1, 2, 3, 4, 0] rfl (hC3 _ _ _ _ _ h)
set_option maxRecDepth 100000 in
theorem mt_offerOpen (l : Launch) (D : va_G) (cr : List vw_C) (ds : Nat → ClassId) (ad : Nat → Nat) (a0 : Int) (a1 : Int) (a2 : Int) (σ : ZS) (post : ZS → Prop) (h : wm_offerOpen a0 a1 a2 σ post) : ZMetV l (ΘM D cr ds ad) yX13_offerOpen cX13_offerOpen 5 4 64 0 0 [.ref (ad 0), .int (iz a0), .int (iz a1), .int (iz a2)] σ post := by
  refine ZMetV.of (by decide) (Nat.le_of_ble_eq_true rfl) (fun Γ X K hR => ?_)
  have X : ZX Γ cX13_offerOpen RX13 4 64 := X
  refine z_sub [0, 1, 2, 3] (lv' := [(0, .ref (ad 0)), (1, .int (iz a0)), (2, .int (iz a1)), (3, .int (iz a2))]) rfl ?_
  refine z_iconst X 0 dX13_offerOpen_0 ?_
  refine z_istoreK X K (lv' := [(4, .int (iz 0)), (0, .ref (ad 0)), (1, .int (iz a0)), (2, .int (iz a1)), (3, .int (iz a2))]) dX13_offerOpen_1 rfl rfl ?_
  obtain ⟨N, h⟩ := h
  exact z_sub [1, 2, 3, 4, 0] rfl (wkm_offerOpen_3 X K hR N _ _ _ _ _ h)
set_option maxRecDepth 100000 in
theorem clm_offerOpen {Γ : ZG} {cc : ByteArray} {fr lo nL pc : Nat} {lv : List (Nat × Value)} {st : List Value} {l : Launch} {D : va_G} {cr : List vw_C} {ds : Nat → ClassId} {ad : Nat → Nat} {a0 : Int} {a1 : Int} {a2 : Int} {σ : ZS} {post : ZS → Prop} (X : ZX Γ cc RX13 fr lo) (K : ZCap Γ l (ΘM D cr ds ad) nL 0 0) (hrm : zroom 5 88 fr lo = true) (h : wm_offerOpen a0 a1 a2 σ post) (hst : (st.map fun v => v.category).sum ≤ 8) (d : decode cc pc = .ok (.invokevirtual 329, 3)) (kk : ∀ (σ' : ZS), post σ' → Z Γ 0 0 σ' [] (pc + 3) lv (st)) : Z Γ 0 0 σ [] pc lv (.int (iz a2) :: .int (iz a1) :: .int (iz a0) :: .ref (ad 0) :: st) :=
  z_callVV' (C := RX13) (q0 := 0) X K (mt_offerOpen l D cr ds ad a0 a1 a2 σ post h) (Nat.le_of_ble_eq_true rfl) rfl rfl rfl (lw_V q1631 q1633 qs85 q127 q1634) ⟨rfl, by decide, by decide, rfl⟩ (zroom_of hrm) ⟨Nat.zero_le _, Nat.zero_le _⟩ hst d rfl kk
/- X13_endSixes -/
set_option maxRecDepth 100000 in
theorem mt_endSixes (l : Launch) (D : va_G) (cr : List vw_C) (ds : Nat → ClassId) (ad : Nat → Nat) (a0 : Int) (a1 : Int) (σ : ZS) (post : ZS → Prop) (h : wm_endSixes a0 a1 σ post) : ZMetV l (ΘM D cr ds ad) yX13_endSixes cX13_endSixes 3 5 88 0 0 [.ref (ad 0), .int (iz a0), .int (iz a1)] σ post := by
  refine ZMetV.of (by decide) (Nat.le_of_ble_eq_true rfl) (fun Γ X K hR => ?_)
  have X : ZX Γ cX13_endSixes RX13 5 88 := X
  refine z_sub [0, 1, 2] (lv' := [(0, .ref (ad 0)), (1, .int (iz a0)), (2, .int (iz a1))]) rfl ?_
  refine z_aload_n X 0 dX13_endSixes_0 rfl ?_
  refine z_iload_n X 1 dX13_endSixes_1 rfl ?_
  refine z_iload_n X 2 dX13_endSixes_2 rfl ?_
  refine clm_lastWords X K rfl h (Nat.le_of_ble_eq_true rfl) dX13_endSixes_3 (fun r2 σ1 h => ?_)
  refine z_iconst X 3 dX13_endSixes_6 ?_
  refine z_iload_n X 2 dX13_endSixes_7 rfl ?_
  refine clm_lastWords X K rfl h (Nat.le_of_ble_eq_true rfl) dX13_endSixes_8 (fun r4 σ3 h => ?_)
  refine z_isub X dX13_endSixes_11 ?_
  refine z_aload_n X 0 dX13_endSixes_12 rfl ?_
  refine gM_47 X K dX13_endSixes_13 ?_
  refine z_isub X dX13_endSixes_16 ?_
  refine clm_offerFrom X K rfl h (Nat.le_of_ble_eq_true rfl) dX13_endSixes_17 (fun σ5 h => ?_)
  refine z_iload_n X 2 dX13_endSixes_20 rfl ?_
  obtain ⟨i6, h⟩ := h
  refine z_if_ne X 31 dX13_endSixes_21 rfl i6 (fun c7 => ?_) (fun c7 => ?_)
  · have h := h.1 c7
    exact hR _ _ _ _ _ _ dX13_endSixes_31 (Nat.le_refl 0) (Nat.le_refl 0) h
  · have h := h.2 c7
    refine z_aload_n X 0 dX13_endSixes_24 rfl ?_
    refine z_iload_n X 1 dX13_endSixes_25 rfl ?_
    refine z_iconst X 0 dX13_endSixes_26 ?_
    refine z_iconst X 2 dX13_endSixes_27 ?_
    refine clm_offerOpen X K rfl h (Nat.le_of_ble_eq_true rfl) dX13_endSixes_28 (fun σ8 h => ?_)
    exact hR _ _ _ _ _ _ dX13_endSixes_31 (Nat.le_refl 0) (Nat.le_refl 0) h
set_option maxRecDepth 100000 in
theorem clm_endSixes {Γ : ZG} {cc : ByteArray} {fr lo nL pc : Nat} {lv : List (Nat × Value)} {st : List Value} {l : Launch} {D : va_G} {cr : List vw_C} {ds : Nat → ClassId} {ad : Nat → Nat} {a0 : Int} {a1 : Int} {σ : ZS} {post : ZS → Prop} (X : ZX Γ cc RX13 fr lo) (K : ZCap Γ l (ΘM D cr ds ad) nL 0 0) (hrm : zroom 6 110 fr lo = true) (h : wm_endSixes a0 a1 σ post) (hst : (st.map fun v => v.category).sum ≤ 8) (d : decode cc pc = .ok (.invokevirtual 356, 3)) (kk : ∀ (σ' : ZS), post σ' → Z Γ 0 0 σ' [] (pc + 3) lv (st)) : Z Γ 0 0 σ [] pc lv (.int (iz a1) :: .int (iz a0) :: .ref (ad 0) :: st) :=
  z_callVV' (C := RX13) (q0 := 0) X K (mt_endSixes l D cr ds ad a0 a1 σ post h) (Nat.le_of_ble_eq_true rfl) rfl rfl rfl (lw_V q1639 q1641 qs87 q127 q1642) ⟨rfl, by decide, by decide, rfl⟩ (zroom_of hrm) ⟨Nat.zero_le _, Nat.zero_le _⟩ hst d rfl kk
/- X13_endThrees -/
set_option maxRecDepth 100000 in
theorem mt_endThrees (l : Launch) (D : va_G) (cr : List vw_C) (ds : Nat → ClassId) (ad : Nat → Nat) (a0 : Int) (a1 : Int) (σ : ZS) (post : ZS → Prop) (h : wm_endThrees a0 a1 σ post) : ZMetV l (ΘM D cr ds ad) yX13_endThrees cX13_endThrees 3 5 88 0 0 [.ref (ad 0), .int (iz a0), .int (iz a1)] σ post := by
  refine ZMetV.of (by decide) (Nat.le_of_ble_eq_true rfl) (fun Γ X K hR => ?_)
  have X : ZX Γ cX13_endThrees RX13 5 88 := X
  refine z_sub [0, 1, 2] (lv' := [(0, .ref (ad 0)), (1, .int (iz a0)), (2, .int (iz a1))]) rfl ?_
  refine z_aload_n X 0 dX13_endThrees_0 rfl ?_
  refine z_iload_n X 1 dX13_endThrees_1 rfl ?_
  refine z_iload_n X 2 dX13_endThrees_2 rfl ?_
  refine z_iconst X 1 dX13_endThrees_3 ?_
  refine z_iadd X dX13_endThrees_4 ?_
  refine z_iconst X 1 dX13_endThrees_5 ?_
  refine z_aload_n X 0 dX13_endThrees_6 rfl ?_
  refine gM_47 X K dX13_endThrees_7 ?_
  refine z_isub X dX13_endThrees_10 ?_
  refine clm_offerFrom X K rfl h (Nat.le_of_ble_eq_true rfl) dX13_endThrees_11 (fun σ1 h => ?_)
  refine z_aload_n X 0 dX13_endThrees_14 rfl ?_
  refine z_iload_n X 1 dX13_endThrees_15 rfl ?_
  refine z_iload_n X 2 dX13_endThrees_16 rfl ?_
  refine z_iconst X 1 dX13_endThrees_17 ?_
  refine clm_offerOpen X K rfl h (Nat.le_of_ble_eq_true rfl) dX13_endThrees_18 (fun σ2 h => ?_)
  exact hR _ _ _ _ _ _ dX13_endThrees_21 (Nat.le_refl 0) (Nat.le_refl 0) h
set_option maxRecDepth 100000 in
theorem clm_endThrees {Γ : ZG} {cc : ByteArray} {fr lo nL pc : Nat} {lv : List (Nat × Value)} {st : List Value} {l : Launch} {D : va_G} {cr : List vw_C} {ds : Nat → ClassId} {ad : Nat → Nat} {a0 : Int} {a1 : Int} {σ : ZS} {post : ZS → Prop} (X : ZX Γ cc RX13 fr lo) (K : ZCap Γ l (ΘM D cr ds ad) nL 0 0) (hrm : zroom 6 110 fr lo = true) (h : wm_endThrees a0 a1 σ post) (hst : (st.map fun v => v.category).sum ≤ 8) (d : decode cc pc = .ok (.invokevirtual 353, 3)) (kk : ∀ (σ' : ZS), post σ' → Z Γ 0 0 σ' [] (pc + 3) lv (st)) : Z Γ 0 0 σ [] pc lv (.int (iz a1) :: .int (iz a0) :: .ref (ad 0) :: st) :=
  z_callVV' (C := RX13) (q0 := 0) X K (mt_endThrees l D cr ds ad a0 a1 σ post h) (Nat.le_of_ble_eq_true rfl) rfl rfl rfl (lw_V q1627 q1629 qs84 q127 q1630) ⟨rfl, by decide, by decide, rfl⟩ (zroom_of hrm) ⟨Nat.zero_le _, Nat.zero_le _⟩ hst d rfl kk
/- X13_workRuns -/
set_option maxRecDepth 100000 in
theorem wkm_workRuns_278 {Γ : ZG} {l : Launch} {D : va_G} {cr : List vw_C} {ds : Nat → ClassId} {ad : Nat → Nat} {post : ZS → Prop} (X : ZX Γ cX13_workRuns RX13 6 110) (K : ZCap Γ l (ΘM D cr ds ad) 6 0 0) (hR : ZRetV Γ cX13_workRuns 0 0 post) : ∀ (N : Nat) (v2 : Int) (σ : ZS), zfix (wbm_workRuns_278 post) N (v2, σ) → Z Γ 0 0 σ [] 278 [(0, .ref (ad 0)), (2, .int (iz v2))] [] := by
  intro N
  induction N with
  | zero => intro v2 σ h; exact False.elim h
  | succ N ih =>
    intro v2 σ h
    have h : wbm_workRuns_278 post (zfix (wbm_workRuns_278 post) N) (v2, σ) := h
    have hC278 := ih
    clear ih
    generalize zfix (wbm_workRuns_278 post) N = C278 at h hC278
    dsimp only [wbm_workRuns_278] at h
    refine z_iload_n X 1 dX13_workRuns_278 rfl ?_
    refine z_bipush X 13 dX13_workRuns_279 rfl ?_
    obtain ⟨i1, h⟩ := h
    refine z_icmp_ge X 320 dX13_workRuns_281 rfl i1 (by decide) (fun c2 => ?_) (fun c2 => ?_)
    · have h := h.1 c2
      exact hR _ _ _ _ _ _ dX13_workRuns_320 (Nat.le_refl 0) (Nat.le_refl 0) h
    · have h := h.2 c2
      refine z_aload_n X 0 dX13_workRuns_284 rfl ?_
      refine gM_43 X K dX13_workRuns_285 ?_
      refine z_bipush X 13 dX13_workRuns_288 rfl ?_
      refine z_iload_n X 1 dX13_workRuns_290 rfl ?_
      refine z_iadd X dX13_workRuns_291 ?_
      refine z_aload_n X 0 dX13_workRuns_292 rfl ?_
      refine gM_43 X K dX13_workRuns_293 ?_
      refine z_iload_n X 1 dX13_workRuns_296 rfl ?_
      obtain ⟨x3, h⟩ := h
      refine aM_25 X K dX13_workRuns_297 x3 ?_
      obtain ⟨x4, h⟩ := h
      refine sM_25 X K dX13_workRuns_298 x4 (fun σ5 eσ5 => ?_)
      have h := h σ5 eσ5
      refine z_aload_n X 0 dX13_workRuns_299 rfl ?_
      refine gM_44 X K dX13_workRuns_300 ?_
      refine z_bipush X 13 dX13_workRuns_303 rfl ?_
      refine z_iload_n X 1 dX13_workRuns_305 rfl ?_
      refine z_iadd X dX13_workRuns_306 ?_
      refine z_aload_n X 0 dX13_workRuns_307 rfl ?_
      refine gM_44 X K dX13_workRuns_308 ?_
      refine z_iload_n X 1 dX13_workRuns_311 rfl ?_
      refine aM_26 X K dX13_workRuns_312 x3 ?_
      refine sM_26 X K dX13_workRuns_313 x4 (fun σ6 eσ6 => ?_)
      have h := h σ6 eσ6
      refine z_iincK X K 1 (lv' := [(2, .int (iz (v2 + 1))), (0, .ref (ad 0))]) dX13_workRuns_314 rfl rfl rfl ?_
      refine z_goto (tgt := 278) X dX13_workRuns_317 rfl ?_
      exact z_sub [1, 0] rfl (hC278 _ _ h)
set_option maxRecDepth 100000 in
theorem wkm_workRuns_238 {Γ : ZG} {l : Launch} {D : va_G} {cr : List vw_C} {ds : Nat → ClassId} {ad : Nat → Nat} {post : ZS → Prop} (X : ZX Γ cX13_workRuns RX13 6 110) (K : ZCap Γ l (ΘM D cr ds ad) 6 0 0) (hR : ZRetV Γ cX13_workRuns 0 0 post) {C173 : Int × Int × ZS → Prop} (hC173 : ∀ (v1 : Int) (v2 : Int) (σ : ZS), C173 (v1, v2, σ) → Z Γ 0 0 σ [] 173 [(0, .ref (ad 0)), (1, .int (iz v1)), (2, .int (iz v2))] []) (v1 : Int) (v2 : Int) (σ : ZS) (h : wm_workRuns_238 C173 post v1 v2 σ) : Z Γ 0 0 σ [] 238 [(0, .ref (ad 0)), (1, .int (iz v1)), (2, .int (iz v2))] [] := by
  refine z_aload_n X 0 dX13_workRuns_238 rfl ?_
  refine z_iload_n X 1 dX13_workRuns_239 rfl ?_
  refine z_iload_n X 2 dX13_workRuns_240 rfl ?_
  refine clm_endSixes X K rfl h (Nat.le_of_ble_eq_true rfl) dX13_workRuns_241 (fun σ1 h => ?_)
  refine z_aload_n X 0 dX13_workRuns_244 rfl ?_
  refine gM_43 X K dX13_workRuns_245 ?_
  refine z_bipush X 9 dX13_workRuns_248 rfl ?_
  refine z_iload_n X 2 dX13_workRuns_250 rfl ?_
  refine z_iadd X dX13_workRuns_251 ?_
  refine z_aload_n X 0 dX13_workRuns_252 rfl ?_
  refine gM_45 X K dX13_workRuns_253 ?_
  obtain ⟨x2, h⟩ := h
  refine sM_25 X K dX13_workRuns_256 x2 (fun σ3 eσ3 => ?_)
  have h := h σ3 eσ3
  refine z_aload_n X 0 dX13_workRuns_257 rfl ?_
  refine gM_44 X K dX13_workRuns_258 ?_
  refine z_bipush X 9 dX13_workRuns_261 rfl ?_
  refine z_iload_n X 2 dX13_workRuns_263 rfl ?_
  refine z_iadd X dX13_workRuns_264 ?_
  refine z_aload_n X 0 dX13_workRuns_265 rfl ?_
  refine gM_46 X K dX13_workRuns_266 ?_
  refine sM_26 X K dX13_workRuns_269 x2 (fun σ4 eσ4 => ?_)
  have h := h σ4 eσ4
  refine z_iincK X K 2 (lv' := [(2, .int (iz (v2 + 1))), (0, .ref (ad 0)), (1, .int (iz v1))]) dX13_workRuns_270 rfl rfl rfl ?_
  refine z_goto (tgt := 173) X dX13_workRuns_273 rfl ?_
  exact z_sub [1, 2, 0] rfl (hC173 _ _ _ h)
set_option maxRecDepth 100000 in
theorem wkm_workRuns_222 {Γ : ZG} {l : Launch} {D : va_G} {cr : List vw_C} {ds : Nat → ClassId} {ad : Nat → Nat} {post : ZS → Prop} (X : ZX Γ cX13_workRuns RX13 6 110) (K : ZCap Γ l (ΘM D cr ds ad) 6 0 0) (hR : ZRetV Γ cX13_workRuns 0 0 post) {C173 : Int × Int × ZS → Prop} (hC173 : ∀ (v1 : Int) (v2 : Int) (σ : ZS), C173 (v1, v2, σ) → Z Γ 0 0 σ [] 173 [(0, .ref (ad 0)), (1, .int (iz v1)), (2, .int (iz v2))] []) (v1 : Int) (v2 : Int) (v3 : Int) (t0 : Int) (σ : ZS) (h : wm_workRuns_222 C173 post v1 v2 v3 t0 σ) : Z Γ 0 0 σ [] 222 [(0, .ref (ad 0)), (1, .int (iz v1)), (2, .int (iz v2)), (3, .int (iz v3))] [.int (iz t0), .ref (ad 0)] := by
  refine z_aload_n X 0 dX13_workRuns_222 rfl ?_
  refine gM_43 X K dX13_workRuns_223 ?_
  refine z_iload_n X 3 dX13_workRuns_226 rfl ?_
  obtain ⟨x1, h⟩ := h
  refine aM_25 X K dX13_workRuns_227 x1 ?_
  refine z_iadd X dX13_workRuns_228 ?_
  refine z_aload_n X 0 dX13_workRuns_229 rfl ?_
  refine gM_44 X K dX13_workRuns_230 ?_
  refine z_iload_n X 3 dX13_workRuns_233 rfl ?_
  refine aM_26 X K dX13_workRuns_234 x1 ?_
  refine clm_offer X K rfl h (Nat.le_of_ble_eq_true rfl) dX13_workRuns_235 (fun σ2 h => ?_)
  exact z_sub [0, 1, 2] rfl (wkm_workRuns_238 X K hR hC173 _ _ _ h)
set_option maxRecDepth 100000 in
theorem wkm_workRuns_173 {Γ : ZG} {l : Launch} {D : va_G} {cr : List vw_C} {ds : Nat → ClassId} {ad : Nat → Nat} {post : ZS → Prop} (X : ZX Γ cX13_workRuns RX13 6 110) (K : ZCap Γ l (ΘM D cr ds ad) 6 0 0) (hR : ZRetV Γ cX13_workRuns 0 0 post) : ∀ (N : Nat) (v1 : Int) (v2 : Int) (σ : ZS), zfix (wbm_workRuns_173 post) N (v1, v2, σ) → Z Γ 0 0 σ [] 173 [(0, .ref (ad 0)), (1, .int (iz v1)), (2, .int (iz v2))] [] := by
  intro N
  induction N with
  | zero => intro v1 v2 σ h; exact False.elim h
  | succ N ih =>
    intro v1 v2 σ h
    have h : wbm_workRuns_173 post (zfix (wbm_workRuns_173 post) N) (v1, v2, σ) := h
    have hC173 := ih
    clear ih
    generalize zfix (wbm_workRuns_173 post) N = C173 at h hC173
    dsimp only [wbm_workRuns_173] at h
    refine z_iload_n X 2 dX13_workRuns_173 rfl ?_
    refine z_iconst X 4 dX13_workRuns_174 ?_
    obtain ⟨i1, h⟩ := h
    refine z_icmp_ge X 276 dX13_workRuns_175 rfl i1 (by decide) (fun c2 => ?_) (fun c2 => ?_)
    · have h := h.1 c2
      refine z_iconst X 0 dX13_workRuns_276 ?_
      refine z_istore_nK X K (lv' := [(2, .int (iz 0)), (0, .ref (ad 0)), (1, .int (iz v1))]) dX13_workRuns_277 rfl rfl ?_
      obtain ⟨N, h⟩ := h
      exact z_sub [1, 0] rfl (wkm_workRuns_278 X K hR N _ _ h)
    · have h := h.2 c2
      refine z_aload_n X 0 dX13_workRuns_178 rfl ?_
      refine clm_none X K rfl h (Nat.le_of_ble_eq_true rfl) dX13_workRuns_179 (fun σ3 h => ?_)
      refine z_iload_n X 1 dX13_workRuns_182 rfl ?_
      refine z_aload_n X 0 dX13_workRuns_183 rfl ?_
      refine gM_11 X K dX13_workRuns_184 ?_
      obtain ⟨i4, h⟩ := h
      obtain ⟨i5, h⟩ := h
      refine z_icmp_ge X 238 dX13_workRuns_187 rfl i4 i5 (fun c6 => ?_) (fun c6 => ?_)
      · have h := h.1 c6
        exact z_sub [0, 1, 2] rfl (wkm_workRuns_238 X K hR hC173 _ _ _ h)
      · have h := h.2 c6
        refine z_aload_n X 0 dX13_workRuns_190 rfl ?_
        refine gM_9 X K dX13_workRuns_191 ?_
        refine z_iload_n X 1 dX13_workRuns_194 rfl ?_
        obtain ⟨x7, h⟩ := h
        refine aM_9 X K dX13_workRuns_195 x7 ?_
        refine clm_isSix X K rfl h (Nat.le_of_ble_eq_true rfl) dX13_workRuns_196 (fun r9 σ8 h => ?_)
        obtain ⟨b9, h⟩ := h
        have h := h b9
        refine z_if_eq X 238 dX13_workRuns_199 rfl (InR_b b9) (fun c11 => ?_) (fun c11 => ?_)
        · have h := h.1 c11
          exact z_sub [0, 1, 2] rfl (wkm_workRuns_238 X K hR hC173 _ _ _ h)
        · have h := h.2 c11
          refine z_bipush X 22 dX13_workRuns_202 rfl ?_
          refine z_iload_n X 2 dX13_workRuns_204 rfl ?_
          refine z_iconst X 1 dX13_workRuns_205 ?_
          refine z_iadd X dX13_workRuns_206 ?_
          refine z_iconst X 4 dX13_workRuns_207 ?_
          obtain ⟨i12, h⟩ := h
          obtain ⟨g13, h⟩ := h
          refine z_irem X dX13_workRuns_208 ⟨i12, (by decide), g13, (by decide)⟩ ?_
          refine z_iadd X dX13_workRuns_209 ?_
          refine z_topi (fun v3_14 ev3_14 => ?_)
          have h := h v3_14 ev3_14
          refine z_istore_nK X K (lv' := [(3, .int (iz v3_14)), (0, .ref (ad 0)), (1, .int (iz v1)), (2, .int (iz v2))]) dX13_workRuns_210 rfl rfl ?_
          refine z_aload_n X 1 dX13_workRuns_211 rfl ?_
          refine z_iload_n X 3 dX13_workRuns_212 rfl ?_
          refine z_iconst X 3 dX13_workRuns_213 ?_
          refine z_icmp_ne X 221 dX13_workRuns_214 rfl i1 (by decide) (fun c15 => ?_) (fun c15 => ?_)
          · have h := h.1 c15
            refine z_iconst X 0 dX13_workRuns_221 ?_
            exact z_sub [1, 2, 3, 0] rfl (wkm_workRuns_222 X K hR hC173 _ _ _ _ _ h)
          · have h := h.2 c15
            refine z_iconst X 3 dX13_workRuns_217 ?_
            refine z_goto (tgt := 222) X dX13_workRuns_218 rfl ?_
            exact z_sub [1, 2, 3, 0] rfl (wkm_workRuns_222 X K hR hC173 _ _ _ _ _ h)
set_option maxRecDepth 100000 in
theorem wkm_workRuns_125 {Γ : ZG} {l : Launch} {D : va_G} {cr : List vw_C} {ds : Nat → ClassId} {ad : Nat → Nat} {post : ZS → Prop} (X : ZX Γ cX13_workRuns RX13 6 110) (K : ZCap Γ l (ΘM D cr ds ad) 6 0 0) (hR : ZRetV Γ cX13_workRuns 0 0 post) {C2 : Int × Int × ZS → Prop} (hC2 : ∀ (v1 : Int) (v2 : Int) (σ : ZS), C2 (v1, v2, σ) → Z Γ 0 0 σ [] 2 [(0, .ref (ad 0)), (1, .int (iz v1)), (2, .int (iz v2))] []) {C35 : Int × Int × Int × Int × ZS → Prop} (hC35 : ∀ (v1 : Int) (v2 : Int) (v3 : Int) (v4 : Int) (σ : ZS), C35 (v1, v2, v3, v4, σ) → Z Γ 0 0 σ [] 35 [(0, .ref (ad 0)), (1, .int (iz v1)), (2, .int (iz v2)), (3, .int (iz v3)), (4, .int (iz v4))] []) (v1 : Int) (v2 : Int) (v3 : Int) (v4 : Int) (σ : ZS) (h : wm_workRuns_125 C2 C35 post v1 v2 v3 v4 σ) : Z Γ 0 0 σ [] 125 [(0, .ref (ad 0)), (1, .int (iz v1)), (2, .int (iz v2)), (3, .int (iz v3)), (4, .int (iz v4))] [] := by
  refine z_aload_n X 0 dX13_workRuns_125 rfl ?_
  refine gM_43 X K dX13_workRuns_126 ?_
  refine z_iconst X 3 dX13_workRuns_129 ?_
  refine z_iload_n X 2 dX13_workRuns_130 rfl ?_
  refine z_iconst X 4 dX13_workRuns_131 ?_
  refine z_isub X dX13_workRuns_132 ?_
  refine z_imul X dX13_workRuns_133 ?_
  refine z_iload X 4 dX13_workRuns_134 rfl ?_
  refine z_iadd X dX13_workRuns_136 ?_
  refine z_aload_n X 0 dX13_workRuns_137 rfl ?_
  refine gM_45 X K dX13_workRuns_138 ?_
  obtain ⟨x1, h⟩ := h
  refine sM_25 X K dX13_workRuns_141 x1 (fun σ2 eσ2 => ?_)
  have h := h σ2 eσ2
  refine z_aload_n X 0 dX13_workRuns_142 rfl ?_
  refine gM_44 X K dX13_workRuns_143 ?_
  refine z_iconst X 3 dX13_workRuns_146 ?_
  refine z_iload_n X 2 dX13_workRuns_147 rfl ?_
  refine z_iconst X 4 dX13_workRuns_148 ?_
  refine z_isub X dX13_workRuns_149 ?_
  refine z_imul X dX13_workRuns_150 ?_
  refine z_iload X 4 dX13_workRuns_151 rfl ?_
  refine z_iadd X dX13_workRuns_153 ?_
  refine z_aload_n X 0 dX13_workRuns_154 rfl ?_
  refine gM_46 X K dX13_workRuns_155 ?_
  refine sM_26 X K dX13_workRuns_158 x1 (fun σ3 eσ3 => ?_)
  have h := h σ3 eσ3
  refine z_iincK X K 4 (lv' := [(4, .int (iz (v4 + 1))), (0, .ref (ad 0)), (1, .int (iz v1)), (2, .int (iz v2)), (3, .int (iz v3))]) dX13_workRuns_159 rfl rfl rfl ?_
  refine z_goto (tgt := 35) X dX13_workRuns_162 rfl ?_
  exact z_sub [1, 2, 3, 4, 0] rfl (hC35 _ _ _ _ _ h)
set_option maxRecDepth 100000 in
theorem wkm_workRuns_93 {Γ : ZG} {l : Launch} {D : va_G} {cr : List vw_C} {ds : Nat → ClassId} {ad : Nat → Nat} {post : ZS → Prop} (X : ZX Γ cX13_workRuns RX13 6 110) (K : ZCap Γ l (ΘM D cr ds ad) 6 0 0) (hR : ZRetV Γ cX13_workRuns 0 0 post) {C2 : Int × Int × ZS → Prop} (hC2 : ∀ (v1 : Int) (v2 : Int) (σ : ZS), C2 (v1, v2, σ) → Z Γ 0 0 σ [] 2 [(0, .ref (ad 0)), (1, .int (iz v1)), (2, .int (iz v2))] []) {C35 : Int × Int × Int × Int × ZS → Prop} (hC35 : ∀ (v1 : Int) (v2 : Int) (v3 : Int) (v4 : Int) (σ : ZS), C35 (v1, v2, v3, v4, σ) → Z Γ 0 0 σ [] 35 [(0, .ref (ad 0)), (1, .int (iz v1)), (2, .int (iz v2)), (3, .int (iz v3)), (4, .int (iz v4))] []) (v1 : Int) (v2 : Int) (v3 : Int) (v4 : Int) (σ : ZS) (h : wm_workRuns_93 C2 C35 post v1 v2 v3 v4 σ) : Z Γ 0 0 σ [] 93 [(0, .ref (ad 0)), (1, .int (iz v1)), (2, .int (iz v2)), (3, .int (iz v3)), (4, .int (iz v4))] [] := by
  refine z_iload X 4 dX13_workRuns_93 rfl ?_
  obtain ⟨i1, h⟩ := h
  refine z_if_ne X 107 dX13_workRuns_95 rfl i1 (fun c2 => ?_) (fun c2 => ?_)
  · have h := h.1 c2
    refine z_iload X 4 dX13_workRuns_107 rfl ?_
    refine z_iconst X 2 dX13_workRuns_109 ?_
    refine z_icmp_ne X 125 dX13_workRuns_110 rfl i1 (by decide) (fun c3 => ?_) (fun c3 => ?_)
    · have h := h.1 c3
      exact z_sub [0, 1, 2, 3, 4] rfl (wkm_workRuns_125 X K hR hC2 hC35 _ _ _ _ _ h)
    · have h := h.2 c3
      refine z_iload_n X 2 dX13_workRuns_113 rfl ?_
      refine z_bipush X 6 dX13_workRuns_114 rfl ?_
      obtain ⟨i4, h⟩ := h
      refine z_icmp_eq X 125 dX13_workRuns_116 rfl i4 (by decide) (fun c5 => ?_) (fun c5 => ?_)
      · have h := h.1 c5
        exact z_sub [0, 1, 2, 3, 4] rfl (wkm_workRuns_125 X K hR hC2 hC35 _ _ _ _ _ h)
      · have h := h.2 c5
        refine z_aload_n X 0 dX13_workRuns_119 rfl ?_
        refine z_iload_n X 1 dX13_workRuns_120 rfl ?_
        refine z_iconst X 2 dX13_workRuns_121 ?_
        refine clm_endThrees X K rfl h (Nat.le_of_ble_eq_true rfl) dX13_workRuns_122 (fun σ6 h => ?_)
        exact z_sub [0, 1, 2, 3, 4] rfl (wkm_workRuns_125 X K hR hC2 hC35 _ _ _ _ _ h)
  · have h := h.2 c2
    refine z_aload_n X 0 dX13_workRuns_98 rfl ?_
    refine z_iload_n X 1 dX13_workRuns_99 rfl ?_
    refine z_iconst X 0 dX13_workRuns_100 ?_
    refine clm_endThrees X K rfl h (Nat.le_of_ble_eq_true rfl) dX13_workRuns_101 (fun σ7 h => ?_)
    refine z_goto (tgt := 125) X dX13_workRuns_104 rfl ?_
    exact z_sub [0, 1, 2, 3, 4] rfl (wkm_workRuns_125 X K hR hC2 hC35 _ _ _ _ _ h)
set_option maxRecDepth 100000 in
theorem wkm_workRuns_35 {Γ : ZG} {l : Launch} {D : va_G} {cr : List vw_C} {ds : Nat → ClassId} {ad : Nat → Nat} {post : ZS → Prop} (X : ZX Γ cX13_workRuns RX13 6 110) (K : ZCap Γ l (ΘM D cr ds ad) 6 0 0) (hR : ZRetV Γ cX13_workRuns 0 0 post) {C2 : Int × Int × ZS → Prop} (hC2 : ∀ (v1 : Int) (v2 : Int) (σ : ZS), C2 (v1, v2, σ) → Z Γ 0 0 σ [] 2 [(0, .ref (ad 0)), (1, .int (iz v1)), (2, .int (iz v2))] []) : ∀ (N : Nat) (v1 : Int) (v2 : Int) (v3 : Int) (v4 : Int) (σ : ZS), zfix (wbm_workRuns_35 C2 post) N (v1, v2, v3, v4, σ) → Z Γ 0 0 σ [] 35 [(0, .ref (ad 0)), (1, .int (iz v1)), (2, .int (iz v2)), (3, .int (iz v3)), (4, .int (iz v4))] [] := by
  intro N
  induction N with
  | zero => intro v1 v2 v3 v4 σ h; exact False.elim h
  | succ N ih =>
    intro v1 v2 v3 v4 σ h
    have h : wbm_workRuns_35 C2 post (zfix (wbm_workRuns_35 C2 post) N) (v1, v2, v3, v4, σ) := h
    have hC35 := ih
    clear ih
    generalize zfix (wbm_workRuns_35 C2 post) N = C35 at h hC35
    dsimp only [wbm_workRuns_35] at h
    refine z_iload X 4 dX13_workRuns_35 rfl ?_
    refine z_iconst X 3 dX13_workRuns_37 ?_
    obtain ⟨i1, h⟩ := h
    refine z_icmp_ge X 165 dX13_workRuns_38 rfl i1 (by decide) (fun c2 => ?_) (fun c2 => ?_)
    · have h := h.1 c2
      refine z_iincK X K 2 (lv' := [(2, .int (iz (v2 + 1))), (0, .ref (ad 0)), (1, .int (iz v1)), (3, .int (iz v3)), (4, .int (iz v4))]) dX13_workRuns_165 rfl rfl rfl ?_
      refine z_goto (tgt := 2) X dX13_workRuns_168 rfl ?_
      exact z_sub [1, 2, 0] rfl (hC2 _ _ _ h)
    · have h := h.2 c2
      refine z_aload_n X 0 dX13_workRuns_41 rfl ?_
      refine clm_none X K rfl h (Nat.le_of_ble_eq_true rfl) dX13_workRuns_42 (fun σ3 h => ?_)
      refine z_iload_n X 3 dX13_workRuns_45 rfl ?_
      obtain ⟨i4, h⟩ := h
      refine z_if_le X 93 dX13_workRuns_46 rfl i4 (fun c5 => ?_) (fun c5 => ?_)
      · have h := h.1 c5
        exact z_sub [0, 1, 2, 3, 4] rfl (wkm_workRuns_93 X K hR hC2 hC35 _ _ _ _ _ h)
      · have h := h.2 c5
        refine z_bipush X 13 dX13_workRuns_49 rfl ?_
        refine z_iconst X 3 dX13_workRuns_51 ?_
        refine z_iload_n X 2 dX13_workRuns_52 rfl ?_
        refine z_iconst X 4 dX13_workRuns_53 ?_
        refine z_isub X dX13_workRuns_54 ?_
        refine z_imul X dX13_workRuns_55 ?_
        refine z_iadd X dX13_workRuns_56 ?_
        refine z_iload X 4 dX13_workRuns_57 rfl ?_
        refine z_iload_n X 3 dX13_workRuns_59 rfl ?_
        refine z_iadd X dX13_workRuns_60 ?_
        refine z_iconst X 3 dX13_workRuns_61 ?_
        obtain ⟨i6, h⟩ := h
        obtain ⟨g7, h⟩ := h
        refine z_irem X dX13_workRuns_62 ⟨i6, (by decide), g7, (by decide)⟩ ?_
        refine z_iadd X dX13_workRuns_63 ?_
        refine z_topi (fun v5_8 ev5_8 => ?_)
        have h := h v5_8 ev5_8
        refine z_istoreK X K (lv' := [(5, .int (iz v5_8)), (0, .ref (ad 0)), (1, .int (iz v1)), (2, .int (iz v2)), (3, .int (iz v3)), (4, .int (iz v4))]) dX13_workRuns_64 rfl rfl ?_
        refine z_aload_n X 1 dX13_workRuns_66 rfl ?_
        refine z_iconst X 2 dX13_workRuns_67 ?_
        refine z_iload X 5 dX13_workRuns_68 rfl ?_
        refine z_iload_n X 4 dX13_workRuns_70 rfl ?_
        refine z_iadd X dX13_workRuns_71 ?_
        refine z_iconst X 3 dX13_workRuns_72 ?_
        refine z_idiv X dX13_workRuns_73 ⟨i6, (by decide), g7, (by decide)⟩ ?_
        refine z_imul X dX13_workRuns_74 ?_
        refine z_aload_n X 1 dX13_workRuns_75 rfl ?_
        refine gM_43 X K dX13_workRuns_76 ?_
        refine z_iload X 0 dX13_workRuns_79 rfl ?_
        obtain ⟨x9, h⟩ := h
        refine aM_25 X K dX13_workRuns_81 x9 ?_
        refine z_iadd X dX13_workRuns_82 ?_
        refine z_aload_n X 1 dX13_workRuns_83 rfl ?_
        refine gM_44 X K dX13_workRuns_84 ?_
        refine z_iload X 0 dX13_workRuns_87 rfl ?_
        refine aM_26 X K dX13_workRuns_89 x9 ?_
        refine clm_offer X K rfl h (Nat.le_of_ble_eq_true rfl) dX13_workRuns_90 (fun σ10 h => ?_)
        exact z_sub [1, 2, 3, 4, 5] rfl (wkm_workRuns_93 X K hR hC2 hC35 _ _ _ _ _ h)
set_option maxRecDepth 100000 in
theorem wkm_workRuns_31 {Γ : ZG} {l : Launch} {D : va_G} {cr : List vw_C} {ds : Nat → ClassId} {ad : Nat → Nat} {post : ZS → Prop} (X : ZX Γ cX13_workRuns RX13 6 110) (K : ZCap Γ l (ΘM D cr ds ad) 6 0 0) (hR : ZRetV Γ cX13_workRuns 0 0 post) {C2 : Int × Int × ZS → Prop} (hC2 : ∀ (v1 : Int) (v2 : Int) (σ : ZS), C2 (v1, v2, σ) → Z Γ 0 0 σ [] 2 [(0, .ref (ad 0)), (1, .int (iz v1)), (2, .int (iz v2))] []) (v1 : Int) (v2 : Int) (t0 : Int) (σ : ZS) (h : wm_workRuns_31 C2 post v1 v2 t0 σ) : Z Γ 0 0 σ [] 31 [(0, .ref (ad 0)), (1, .int (iz v1)), (2, .int (iz v2))] [.int (iz t0)] := by
  refine z_istore_nK X K (lv' := [(3, .int (iz t0)), (0, .ref (ad 0)), (1, .int (iz v1)), (2, .int (iz v2))]) dX13_workRuns_31 rfl rfl ?_
  refine z_iconst X 0 dX13_workRuns_32 ?_
  refine z_istoreK X K (lv' := [(4, .int (iz 0)), (3, .int (iz t0)), (0, .ref (ad 0)), (1, .int (iz v1)), (2, .int (iz v2))]) dX13_workRuns_33 rfl rfl ?_
  obtain ⟨N, h⟩ := h
  exact z_sub [2, 3, 4, 1, 0] rfl (wkm_workRuns_35 X K hR hC2 N _ _ _ _ _ h)
set_option maxRecDepth 100000 in
theorem wkm_workRuns_2 {Γ : ZG} {l : Launch} {D : va_G} {cr : List vw_C} {ds : Nat → ClassId} {ad : Nat → Nat} {post : ZS → Prop} (X : ZX Γ cX13_workRuns RX13 6 110) (K : ZCap Γ l (ΘM D cr ds ad) 6 0 0) (hR : ZRetV Γ cX13_workRuns 0 0 post) : ∀ (N : Nat) (v1 : Int) (v2 : Int) (σ : ZS), zfix (wbm_workRuns_2 post) N (v1, v2, σ) → Z Γ 0 0 σ [] 2 [(0, .ref (ad 0)), (1, .int (iz v1)), (2, .int (iz v2))] [] := by
  intro N
  induction N with
  | zero => intro v1 v2 σ h; exact False.elim h
  | succ N ih =>
    intro v1 v2 σ h
    have h : wbm_workRuns_2 post (zfix (wbm_workRuns_2 post) N) (v1, v2, σ) := h
    have hC2 := ih
    clear ih
    generalize zfix (wbm_workRuns_2 post) N = C2 at h hC2
    dsimp only [wbm_workRuns_2] at h
    refine z_iload_n X 2 dX13_workRuns_2 rfl ?_
    refine z_bipush X 6 dX13_workRuns_3 rfl ?_
    obtain ⟨i1, h⟩ := h
    refine z_icmp_gt X 171 dX13_workRuns_5 rfl i1 (by decide) (fun c2 => ?_) (fun c2 => ?_)
    · have h := h.1 c2
      refine z_iconst X 0 dX13_workRuns_171 ?_
      refine z_istore_nK X K (lv' := [(2, .int (iz 0)), (0, .ref (ad 0)), (1, .int (iz v1))]) dX13_workRuns_172 rfl rfl ?_
      obtain ⟨N, h⟩ := h
      exact z_sub [1, 2, 0] rfl (wkm_workRuns_173 X K hR N _ _ _ h)
    · have h := h.2 c2
      refine z_iload_n X 1 dX13_workRuns_8 rfl ?_
      refine z_aload_n X 0 dX13_workRuns_9 rfl ?_
      refine gM_11 X K dX13_workRuns_10 ?_
      obtain ⟨i3, h⟩ := h
      obtain ⟨i4, h⟩ := h
      refine z_icmp_ge X 30 dX13_workRuns_13 rfl i3 i4 (fun c5 => ?_) (fun c5 => ?_)
      · have h := h.1 c5
        refine z_iconst X 0 dX13_workRuns_30 ?_
        exact z_sub [0, 1, 2] rfl (wkm_workRuns_31 X K hR hC2 _ _ _ _ h)
      · have h := h.2 c5
        refine z_aload_n X 0 dX13_workRuns_16 rfl ?_
        refine z_iload_n X 2 dX13_workRuns_17 rfl ?_
        refine z_aload_n X 0 dX13_workRuns_18 rfl ?_
        refine gM_9 X K dX13_workRuns_19 ?_
        refine z_iload_n X 1 dX13_workRuns_22 rfl ?_
        obtain ⟨x6, h⟩ := h
        refine aM_9 X K dX13_workRuns_23 x6 ?_
        refine clm_spell X K rfl h (Nat.le_of_ble_eq_true rfl) dX13_workRuns_24 (fun r8 σ7 h => ?_)
        refine z_goto (tgt := 31) X dX13_workRuns_27 rfl ?_
        exact z_sub [0, 1, 2] rfl (wkm_workRuns_31 X K hR hC2 _ _ _ _ h)
set_option maxRecDepth 100000 in
theorem mt_workRuns (l : Launch) (D : va_G) (cr : List vw_C) (ds : Nat → ClassId) (ad : Nat → Nat) (a0 : Int) (σ : ZS) (post : ZS → Prop) (h : wm_workRuns a0 σ post) : ZMetV l (ΘM D cr ds ad) yX13_workRuns cX13_workRuns 6 6 110 0 0 [.ref (ad 0), .int (iz a0)] σ post := by
  refine ZMetV.of (by decide) (Nat.le_of_ble_eq_true rfl) (fun Γ X K hR => ?_)
  have X : ZX Γ cX13_workRuns RX13 6 110 := X
  refine z_sub [0, 1] (lv' := [(0, .ref (ad 0)), (1, .int (iz a0))]) rfl ?_
  refine z_iconst X 4 dX13_workRuns_0 ?_
  refine z_istore_nK X K (lv' := [(2, .int (iz 4)), (0, .ref (ad 0)), (1, .int (iz a0))]) dX13_workRuns_1 rfl rfl ?_
  obtain ⟨N, h⟩ := h
  exact z_sub [1, 2, 0] rfl (wkm_workRuns_2 X K hR N _ _ _ h)
set_option maxRecDepth 100000 in
theorem clm_workRuns {Γ : ZG} {cc : ByteArray} {fr lo nL pc : Nat} {lv : List (Nat × Value)} {st : List Value} {l : Launch} {D : va_G} {cr : List vw_C} {ds : Nat → ClassId} {ad : Nat → Nat} {a0 : Int} {σ : ZS} {post : ZS → Prop} (X : ZX Γ cc RX13 fr lo) (K : ZCap Γ l (ΘM D cr ds ad) nL 0 0) (hrm : zroom 7 135 fr lo = true) (h : wm_workRuns a0 σ post) (hst : (st.map fun v => v.category).sum ≤ 8) (d : decode cc pc = .ok (.invokevirtual 341, 3)) (kk : ∀ (σ' : ZS), post σ' → Z Γ 0 0 σ' [] (pc + 3) lv (st)) : Z Γ 0 0 σ [] pc lv (.int (iz a0) :: .ref (ad 0) :: st) :=
  z_callVV' (C := RX13) (q0 := 0) X K (mt_workRuns l D cr ds ad a0 σ post h) (Nat.le_of_ble_eq_true rfl) rfl rfl rfl (lw_V q1623 q1625 qs83 q127 q1626) ⟨rfl, by decide, by decide, rfl⟩ (zroom_of hrm) ⟨Nat.zero_le _, Nat.zero_le _⟩ hst d rfl kk
/- X13_work -/
set_option maxRecDepth 100000 in
theorem wkm_work_82 {Γ : ZG} {l : Launch} {D : va_G} {cr : List vw_C} {ds : Nat → ClassId} {ad : Nat → Nat} {post : ZS → Prop} (X : ZX Γ cX13_work RX13 7 135) (K : ZCap Γ l (ΘM D cr ds ad) 3 0 0) (hR : ZRetV Γ cX13_work 0 0 post) : ∀ (N : Nat) (v2 : Int) (σ : ZS), zfix (wbm_work_82 post) N (v2, σ) → Z Γ 0 0 σ [] 82 [(0, .ref (ad 0)), (2, .int (iz v2))] [] := by
  intro N
  induction N with
  | zero => intro v2 σ h; exact False.elim h
  | succ N ih =>
    intro v2 σ h
    have h : wbm_work_82 post (zfix (wbm_work_82 post) N) (v2, σ) := h
    have hC82 := ih
    clear ih
    generalize zfix (wbm_work_82 post) N = C82 at h hC82
    dsimp only [wbm_work_82] at h
    refine z_iload_n X 1 dX13_work_82 rfl ?_
    obtain ⟨i1, h⟩ := h
    refine z_if_lt X 102 dX13_work_83 rfl i1 (fun c2 => ?_) (fun c2 => ?_)
    · have h := h.1 c2
      exact hR _ _ _ _ _ _ dX13_work_102 (Nat.le_refl 0) (Nat.le_refl 0) h
    · have h := h.2 c2
      refine z_aload_n X 0 dX13_work_86 rfl ?_
      refine z_iload_n X 1 dX13_work_87 rfl ?_
      refine clm_workAscii X K rfl h (Nat.le_of_ble_eq_true rfl) dX13_work_88 (fun σ3 h => ?_)
      refine z_aload_n X 0 dX13_work_91 rfl ?_
      refine z_iload_n X 1 dX13_work_92 rfl ?_
      refine clm_workRuns X K rfl h (Nat.le_of_ble_eq_true rfl) dX13_work_93 (fun σ4 h => ?_)
      refine z_iincK X K 1 (lv' := [(2, .int (iz (v2 + (-1)))), (0, .ref (ad 0))]) dX13_work_96 rfl rfl rfl ?_
      refine z_goto (tgt := 82) X dX13_work_99 rfl ?_
      exact z_sub [1, 0] rfl (hC82 _ _ h)
set_option maxRecDepth 100000 in
theorem wkm_work_49 {Γ : ZG} {l : Launch} {D : va_G} {cr : List vw_C} {ds : Nat → ClassId} {ad : Nat → Nat} {post : ZS → Prop} (X : ZX Γ cX13_work RX13 7 135) (K : ZCap Γ l (ΘM D cr ds ad) 3 0 0) (hR : ZRetV Γ cX13_work 0 0 post) : ∀ (N : Nat) (v2 : Int) (σ : ZS), zfix (wbm_work_49 post) N (v2, σ) → Z Γ 0 0 σ [] 49 [(0, .ref (ad 0)), (2, .int (iz v2))] [] := by
  intro N
  induction N with
  | zero => intro v2 σ h; exact False.elim h
  | succ N ih =>
    intro v2 σ h
    have h : wbm_work_49 post (zfix (wbm_work_49 post) N) (v2, σ) := h
    have hC49 := ih
    clear ih
    generalize zfix (wbm_work_49 post) N = C49 at h hC49
    dsimp only [wbm_work_49] at h
    refine z_iload_n X 1 dX13_work_49 rfl ?_
    refine z_bipush X 26 dX13_work_50 rfl ?_
    obtain ⟨i1, h⟩ := h
    refine z_icmp_ge X 77 dX13_work_52 rfl i1 (by decide) (fun c2 => ?_) (fun c2 => ?_)
    · have h := h.1 c2
      refine z_aload_n X 0 dX13_work_77 rfl ?_
      refine gM_11 X K dX13_work_78 ?_
      refine z_topi (fun v2_3 ev2_3 => ?_)
      have h := h v2_3 ev2_3
      refine z_istore_nK X K (lv' := [(2, .int (iz v2_3)), (0, .ref (ad 0))]) dX13_work_81 rfl rfl ?_
      obtain ⟨N, h⟩ := h
      exact z_sub [1, 0] rfl (wkm_work_82 X K hR N _ _ h)
    · have h := h.2 c2
      refine z_aload_n X 0 dX13_work_55 rfl ?_
      refine gM_43 X K dX13_work_56 ?_
      refine z_iload_n X 1 dX13_work_59 rfl ?_
      refine z_ldcw X 1000000 q1587 rfl dX13_work_60 ?_
      obtain ⟨x4, h⟩ := h
      refine sM_25 X K dX13_work_63 x4 (fun σ5 eσ5 => ?_)
      have h := h σ5 eσ5
      refine z_aload_n X 0 dX13_work_64 rfl ?_
      refine gM_44 X K dX13_work_65 ?_
      refine z_iload_n X 1 dX13_work_68 rfl ?_
      refine z_iconst X 0 dX13_work_69 ?_
      refine sM_26 X K dX13_work_70 x4 (fun σ6 eσ6 => ?_)
      have h := h σ6 eσ6
      refine z_iincK X K 1 (lv' := [(2, .int (iz (v2 + 1))), (0, .ref (ad 0))]) dX13_work_71 rfl rfl rfl ?_
      refine z_goto (tgt := 49) X dX13_work_74 rfl ?_
      exact z_sub [1, 0] rfl (hC49 _ _ h)
set_option maxRecDepth 100000 in
theorem wkm_work_44 {Γ : ZG} {l : Launch} {D : va_G} {cr : List vw_C} {ds : Nat → ClassId} {ad : Nat → Nat} {post : ZS → Prop} (X : ZX Γ cX13_work RX13 7 135) (K : ZCap Γ l (ΘM D cr ds ad) 3 0 0) (hR : ZRetV Γ cX13_work 0 0 post) (t0 : Int) (σ : ZS) (h : wm_work_44 post t0 σ) : Z Γ 0 0 σ [] 44 [(0, .ref (ad 0))] [.int (iz t0), .ref (ad 0)] := by
  obtain ⟨b2, h⟩ := h
  refine pM_48 X K b2 dX13_work_44 (fun σ1 eσ1 => ?_)
  have h := h σ1 eσ1
  refine z_iconst X 0 dX13_work_47 ?_
  refine z_istore_nK X K (lv' := [(2, .int (iz 0)), (0, .ref (ad 0))]) dX13_work_48 rfl rfl ?_
  obtain ⟨N, h⟩ := h
  exact z_sub [1, 0] rfl (wkm_work_49 X K hR N _ _ h)
set_option maxRecDepth 100000 in
theorem wkm_work_27 {Γ : ZG} {l : Launch} {D : va_G} {cr : List vw_C} {ds : Nat → ClassId} {ad : Nat → Nat} {post : ZS → Prop} (X : ZX Γ cX13_work RX13 7 135) (K : ZCap Γ l (ΘM D cr ds ad) 3 0 0) (hR : ZRetV Γ cX13_work 0 0 post) (t0 : Int) (σ : ZS) (h : wm_work_27 post t0 σ) : Z Γ 0 0 σ [] 27 [(0, .ref (ad 0))] [.int (iz t0), .ref (ad 0)] := by
  refine pM_47 X K dX13_work_27 (fun σ1 eσ1 => ?_)
  have h := h σ1 eσ1
  refine z_aload_n X 0 dX13_work_30 rfl ?_
  refine z_aload_n X 0 dX13_work_31 rfl ?_
  refine gM_49 X K dX13_work_32 ?_
  refine z_iconst X 2 dX13_work_35 ?_
  obtain ⟨i2, h⟩ := h
  refine z_icmp_le X 43 dX13_work_36 rfl i2 (by decide) (fun c3 => ?_) (fun c3 => ?_)
  · have h := h.1 c3
    refine z_iconst X 0 dX13_work_43 ?_
    exact z_sub [0] rfl (wkm_work_44 X K hR _ _ h)
  · have h := h.2 c3
    refine z_iconst X 1 dX13_work_39 ?_
    refine z_goto (tgt := 44) X dX13_work_40 rfl ?_
    exact z_sub [0] rfl (wkm_work_44 X K hR _ _ h)
set_option maxRecDepth 100000 in
theorem mt_work (l : Launch) (D : va_G) (cr : List vw_C) (ds : Nat → ClassId) (ad : Nat → Nat) (a0 : Int) (σ : ZS) (post : ZS → Prop) (h : wm_work a0 σ post) : ZMetV l (ΘM D cr ds ad) yX13_work cX13_work 3 7 135 0 0 [.ref (ad 0), .int (iz a0)] σ post := by
  refine ZMetV.of (by decide) (Nat.le_of_ble_eq_true rfl) (fun Γ X K hR => ?_)
  have X : ZX Γ cX13_work RX13 7 135 := X
  refine z_sub [0, 1] (lv' := [(0, .ref (ad 0)), (1, .int (iz a0))]) rfl ?_
  refine z_aload_n X 0 dX13_work_0 rfl ?_
  refine z_iload_n X 1 dX13_work_1 rfl ?_
  refine pM_49 X K dX13_work_2 (fun σ1 eσ1 => ?_)
  have h := h σ1 eσ1
  refine z_aload_n X 0 dX13_work_5 rfl ?_
  refine z_aload_n X 0 dX13_work_6 rfl ?_
  refine gM_49 X K dX13_work_7 ?_
  refine z_iconst X 4 dX13_work_10 ?_
  obtain ⟨i2, h⟩ := h
  refine z_icmp_ge X 21 dX13_work_11 rfl i2 (by decide) (fun c3 => ?_) (fun c3 => ?_)
  · have h := h.1 c3
    refine z_aload_n X 0 dX13_work_21 rfl ?_
    refine gM_49 X K dX13_work_22 ?_
    refine z_iconst X 4 dX13_work_25 ?_
    refine z_isub X dX13_work_26 ?_
    exact z_sub [0] rfl (wkm_work_27 X K hR _ _ h)
  · have h := h.2 c3
    refine z_aload_n X 0 dX13_work_14 rfl ?_
    refine gM_49 X K dX13_work_15 ?_
    refine z_goto (tgt := 27) X dX13_work_18 rfl ?_
    exact z_sub [0] rfl (wkm_work_27 X K hR _ _ h)
set_option maxRecDepth 100000 in
theorem clm_work {Γ : ZG} {cc : ByteArray} {fr lo nL pc : Nat} {lv : List (Nat × Value)} {st : List Value} {l : Launch} {D : va_G} {cr : List vw_C} {ds : Nat → ClassId} {ad : Nat → Nat} {a0 : Int} {σ : ZS} {post : ZS → Prop} (X : ZX Γ cc RX13 fr lo) (K : ZCap Γ l (ΘM D cr ds ad) nL 0 0) (hrm : zroom 8 157 fr lo = true) (h : wm_work a0 σ post) (hst : (st.map fun v => v.category).sum ≤ 8) (d : decode cc pc = .ok (.invokevirtual 409, 3)) (kk : ∀ (σ' : ZS), post σ' → Z Γ 0 0 σ' [] (pc + 3) lv (st)) : Z Γ 0 0 σ [] pc lv (.int (iz a0) :: .ref (ad 0) :: st) :=
  z_callVV' (C := RX13) (q0 := 0) X K (mt_work l D cr ds ad a0 σ post h) (Nat.le_of_ble_eq_true rfl) rfl rfl rfl (lw_V q1583 q1585 qs75 q127 q1586) ⟨rfl, by decide, by decide, rfl⟩ (zroom_of hrm) ⟨Nat.zero_le _, Nat.zero_le _⟩ hst d rfl kk
/- X13_encode -/
set_option maxRecDepth 100000 in
theorem wkm_encode_374 {Γ : ZG} {l : Launch} {D : va_G} {cr : List vw_C} {ds : Nat → ClassId} {ad : Nat → Nat} {post : Int → ZS → Prop} (X : ZX Γ cX13_encode RX13 8 174) (K : ZCap Γ l (ΘM D cr ds ad) 7 0 0) (hR : ZRetI Γ cX13_encode .int 0 0 post) : ∀ (N : Nat) (v3 : Int) (v6 : Int) (σ : ZS), zfix (wbm_encode_374 post) N (v3, v6, σ) → Z Γ 0 0 σ [] 374 [(0, .ref (ad 0)), (3, .int (iz v3)), (6, .int (iz v6))] [] := by
  intro N
  induction N with
  | zero => intro v3 v6 σ h; exact False.elim h
  | succ N ih =>
    intro v3 v6 σ h
    have h : wbm_encode_374 post (zfix (wbm_encode_374 post) N) (v3, v6, σ) := h
    have hC374 := ih
    clear ih
    generalize zfix (wbm_encode_374 post) N = C374 at h hC374
    dsimp only [wbm_encode_374] at h
    refine z_iload X 2 dX13_encode_374 rfl ?_
    refine z_aload_n X 0 dX13_encode_376 rfl ?_
    refine z_iload_n X 1 dX13_encode_377 rfl ?_
    refine clm_allOf X K rfl h (Nat.le_of_ble_eq_true rfl) dX13_encode_378 (fun r2 σ1 h => ?_)
    obtain ⟨i3, h⟩ := h
    obtain ⟨i4, h⟩ := h
    refine z_icmp_ge X 403 dX13_encode_381 rfl i3 i4 (fun c5 => ?_) (fun c5 => ?_)
    · have h := h.1 c5
      refine z_iload_n X 1 dX13_encode_403 rfl ?_
      exact hR _ _ _ _ _ _ _ dX13_encode_404 rfl (Nat.le_refl 0) (Nat.le_refl 0) h
    · have h := h.2 c5
      refine z_aload_n X 0 dX13_encode_384 rfl ?_
      refine z_iload X 2 dX13_encode_385 rfl ?_
      refine z_aload_n X 0 dX13_encode_387 rfl ?_
      refine gM_20 X K dX13_encode_388 ?_
      refine z_iload X 2 dX13_encode_391 rfl ?_
      obtain ⟨x6, h⟩ := h
      refine aM_13 X K dX13_encode_393 x6 ?_
      refine clm_write X K rfl h (Nat.le_of_ble_eq_true rfl) dX13_encode_394 (fun σ7 h => ?_)
      refine z_iincK X K 2 (lv' := [(6, .int (iz (v6 + 1))), (0, .ref (ad 0)), (3, .int (iz v3))]) dX13_encode_397 rfl rfl rfl ?_
      refine z_goto (tgt := 374) X dX13_encode_400 rfl ?_
      exact z_sub [1, 2, 0] rfl (hC374 _ _ _ h)
set_option maxRecDepth 100000 in
theorem wkm_encode_326 {Γ : ZG} {l : Launch} {D : va_G} {cr : List vw_C} {ds : Nat → ClassId} {ad : Nat → Nat} {post : Int → ZS → Prop} (X : ZX Γ cX13_encode RX13 8 174) (K : ZCap Γ l (ΘM D cr ds ad) 7 0 0) (hR : ZRetI Γ cX13_encode .int 0 0 post) : ∀ (N : Nat) (v3 : Int) (v4 : Int) (σ : ZS), zfix (wbm_encode_326 post) N (v3, v4, σ) → Z Γ 0 0 σ [] 326 [(0, .ref (ad 0)), (3, .int (iz v3)), (4, .int (iz v4))] [] := by
  intro N
  induction N with
  | zero => intro v3 v4 σ h; exact False.elim h
  | succ N ih =>
    intro v3 v4 σ h
    have h : wbm_encode_326 post (zfix (wbm_encode_326 post) N) (v3, v4, σ) := h
    have hC326 := ih
    clear ih
    generalize zfix (wbm_encode_326 post) N = C326 at h hC326
    dsimp only [wbm_encode_326] at h
    refine z_aload_n X 0 dX13_encode_326 rfl ?_
    refine gM_59 X K dX13_encode_327 ?_
    refine z_iload X 2 dX13_encode_330 rfl ?_
    obtain ⟨i1, h⟩ := h
    obtain ⟨i2, h⟩ := h
    refine z_icmp_ge X 351 dX13_encode_332 rfl i1 i2 (fun c3 => ?_) (fun c3 => ?_)
    · have h := h.1 c3
      refine z_aload_n X 0 dX13_encode_351 rfl ?_
      refine z_iload_n X 1 dX13_encode_352 rfl ?_
      refine pM_18 X K dX13_encode_353 (fun σ4 eσ4 => ?_)
      have h := h σ4 eσ4
      refine z_aload_n X 0 dX13_encode_356 rfl ?_
      refine z_iload_n X 1 dX13_encode_357 rfl ?_
      refine clm_check X K rfl h (Nat.le_of_ble_eq_true rfl) dX13_encode_358 (fun σ5 h => ?_)
      refine z_aload_n X 0 dX13_encode_361 rfl ?_
      refine z_iload_n X 1 dX13_encode_362 rfl ?_
      refine clm_map X K rfl h (Nat.le_of_ble_eq_true rfl) dX13_encode_363 (fun σ6 h => ?_)
      refine z_aload_n X 0 dX13_encode_366 rfl ?_
      refine z_iload_n X 1 dX13_encode_367 rfl ?_
      refine clm_draw X K rfl h (Nat.le_of_ble_eq_true rfl) dX13_encode_368 (fun σ7 h => ?_)
      refine z_iconst X 0 dX13_encode_371 ?_
      refine z_istoreK X K (lv' := [(6, .int (iz 0)), (0, .ref (ad 0)), (3, .int (iz v3)), (4, .int (iz v4))]) dX13_encode_372 rfl rfl ?_
      obtain ⟨N, h⟩ := h
      exact z_sub [1, 2, 0] rfl (wkm_encode_374 X K hR N _ _ _ h)
    · have h := h.2 c3
      refine z_aload_n X 0 dX13_encode_335 rfl ?_
      refine z_aload_n X 0 dX13_encode_336 rfl ?_
      refine gM_59 X K dX13_encode_337 ?_
      refine z_iconst X 1 dX13_encode_340 ?_
      refine z_iadd X dX13_encode_341 ?_
      refine clm_pad X K rfl h (Nat.le_of_ble_eq_true rfl) dX13_encode_342 (fun r9 σ8 h => ?_)
      refine clm_put X K rfl h (Nat.le_of_ble_eq_true rfl) dX13_encode_345 (fun σ10 h => ?_)
      refine z_goto (tgt := 326) X dX13_encode_348 rfl ?_
      exact z_sub [0, 1, 2] rfl (hC326 _ _ _ h)
set_option maxRecDepth 100000 in
theorem wkm_encode_299 {Γ : ZG} {l : Launch} {D : va_G} {cr : List vw_C} {ds : Nat → ClassId} {ad : Nat → Nat} {post : Int → ZS → Prop} (X : ZX Γ cX13_encode RX13 8 174) (K : ZCap Γ l (ΘM D cr ds ad) 7 0 0) (hR : ZRetI Γ cX13_encode .int 0 0 post) (v3 : Int) (v4 : Int) (t0 : Int) (σ : ZS) (h : wm_encode_299 post v3 v4 t0 σ) : Z Γ 0 0 σ [] 299 [(0, .ref (ad 0)), (3, .int (iz v3)), (4, .int (iz v4))] [.int (iz t0), .ref (ad 0)] := by
  refine pM_49 X K dX13_encode_299 (fun σ1 eσ1 => ?_)
  have h := h σ1 eσ1
  refine z_aload_n X 0 dX13_encode_302 rfl ?_
  refine z_aload_n X 0 dX13_encode_303 rfl ?_
  refine gM_51 X K dX13_encode_304 ?_
  refine clm_build X K rfl h (Nat.le_of_ble_eq_true rfl) dX13_encode_307 (fun σ2 h => ?_)
  refine z_aload_n X 0 dX13_encode_310 rfl ?_
  refine gM_59 X K dX13_encode_311 ?_
  refine z_iload X 2 dX13_encode_314 rfl ?_
  obtain ⟨i3, h⟩ := h
  obtain ⟨i4, h⟩ := h
  refine z_icmp_ge X 326 dX13_encode_316 rfl i3 i4 (fun c5 => ?_) (fun c5 => ?_)
  · have h := h.1 c5
    obtain ⟨N, h⟩ := h
    exact z_sub [0, 1, 2] rfl (wkm_encode_326 X K hR N _ _ _ h)
  · have h := h.2 c5
    refine z_aload_n X 0 dX13_encode_319 rfl ?_
    refine z_sipush X 129 dX13_encode_320 rfl ?_
    refine clm_put X K rfl h (Nat.le_of_ble_eq_true rfl) dX13_encode_323 (fun σ6 h => ?_)
    obtain ⟨N, h⟩ := h
    exact z_sub [0, 1, 2] rfl (wkm_encode_326 X K hR N _ _ _ h)
set_option maxRecDepth 100000 in
theorem wkm_encode_279 {Γ : ZG} {l : Launch} {D : va_G} {cr : List vw_C} {ds : Nat → ClassId} {ad : Nat → Nat} {post : Int → ZS → Prop} (X : ZX Γ cX13_encode RX13 8 174) (K : ZCap Γ l (ΘM D cr ds ad) 7 0 0) (hR : ZRetI Γ cX13_encode .int 0 0 post) (v3 : Int) (v4 : Int) (v5 : Int) (t0 : Int) (σ : ZS) (h : wm_encode_279 post v3 v4 v5 t0 σ) : Z Γ 0 0 σ [] 279 [(0, .ref (ad 0)), (3, .int (iz v3)), (4, .int (iz v4)), (5, .int (iz v5))] [.int (iz t0), .ref (ad 0)] := by
  refine pM_52 X K dX13_encode_279 (fun σ1 eσ1 => ?_)
  have h := h σ1 eσ1
  refine z_aload_n X 0 dX13_encode_282 rfl ?_
  refine z_aload_n X 0 dX13_encode_283 rfl ?_
  refine gM_48 X K dX13_encode_284 ?_
  obtain ⟨i2, h⟩ := h
  refine z_if_eq X 295 dX13_encode_287 rfl i2 (fun c3 => ?_) (fun c3 => ?_)
  · have h := h.1 c3
    refine z_aload_n X 0 dX13_encode_295 rfl ?_
    refine gM_47 X K dX13_encode_296 ?_
    exact z_sub [0, 1, 2] rfl (wkm_encode_299 X K hR _ _ _ _ h)
  · have h := h.2 c3
    refine z_iload X 3 dX13_encode_290 rfl ?_
    refine z_goto (tgt := 299) X dX13_encode_292 rfl ?_
    exact z_sub [0, 1, 2] rfl (wkm_encode_299 X K hR _ _ _ _ h)
set_option maxRecDepth 100000 in
theorem wkm_encode_249 {Γ : ZG} {l : Launch} {D : va_G} {cr : List vw_C} {ds : Nat → ClassId} {ad : Nat → Nat} {post : Int → ZS → Prop} (X : ZX Γ cX13_encode RX13 8 174) (K : ZCap Γ l (ΘM D cr ds ad) 7 0 0) (hR : ZRetI Γ cX13_encode .int 0 0 post) (v3 : Int) (v4 : Int) (t0 : Int) (σ : ZS) (h : wm_encode_249 post v3 v4 t0 σ) : Z Γ 0 0 σ [] 249 [(0, .ref (ad 0)), (3, .int (iz v3)), (4, .int (iz v4))] [.int (iz t0)] := by
  refine z_istoreK X K (lv' := [(5, .int (iz t0)), (0, .ref (ad 0)), (3, .int (iz v3)), (4, .int (iz v4))]) dX13_encode_249 rfl rfl ?_
  refine z_aload_n X 1 dX13_encode_251 rfl ?_
  refine z_aload_n X 1 dX13_encode_252 rfl ?_
  refine z_iload X 0 dX13_encode_253 rfl ?_
  refine z_iconst X 0 dX13_encode_255 ?_
  refine z_aload_n X 1 dX13_encode_256 rfl ?_
  refine gM_51 X K dX13_encode_257 ?_
  refine clm_has X K rfl h (Nat.le_of_ble_eq_true rfl) dX13_encode_260 (fun r2 σ1 h => ?_)
  obtain ⟨b2, h⟩ := h
  have h := h b2
  refine pM_48 X K b2 dX13_encode_263 (fun σ4 eσ4 => ?_)
  have h := h σ4 eσ4
  refine z_aload_n X 1 dX13_encode_266 rfl ?_
  refine z_aload_n X 1 dX13_encode_267 rfl ?_
  refine gM_48 X K dX13_encode_268 ?_
  obtain ⟨i5, h⟩ := h
  refine z_if_eq X 278 dX13_encode_271 rfl i5 (fun c6 => ?_) (fun c6 => ?_)
  · have h := h.1 c6
    refine z_iconst X 0 dX13_encode_278 ?_
    exact z_sub [1, 2, 3, 0] rfl (wkm_encode_279 X K hR _ _ _ _ _ h)
  · have h := h.2 c6
    refine z_iconst X 1 dX13_encode_274 ?_
    refine z_goto (tgt := 279) X dX13_encode_275 rfl ?_
    exact z_sub [1, 2, 3, 0] rfl (wkm_encode_279 X K hR _ _ _ _ _ h)
set_option maxRecDepth 100000 in
theorem wkm_encode_171 {Γ : ZG} {l : Launch} {D : va_G} {cr : List vw_C} {ds : Nat → ClassId} {ad : Nat → Nat} {post : Int → ZS → Prop} (X : ZX Γ cX13_encode RX13 8 174) (K : ZCap Γ l (ΘM D cr ds ad) 7 0 0) (hR : ZRetI Γ cX13_encode .int 0 0 post) {C136 : Int × Int × Int × ZS → Prop} (hC136 : ∀ (v1 : Int) (v3 : Int) (v4 : Int) (σ : ZS), C136 (v1, v3, v4, σ) → Z Γ 0 0 σ [] 136 [(0, .ref (ad 0)), (1, .int (iz v1)), (3, .int (iz v3)), (4, .int (iz v4))] []) (v1 : Int) (v3 : Int) (v4 : Int) (σ : ZS) (h : wm_encode_171 C136 post v1 v3 v4 σ) : Z Γ 0 0 σ [] 171 [(0, .ref (ad 0)), (1, .int (iz v1)), (3, .int (iz v3)), (4, .int (iz v4))] [] := by
  refine z_aload_n X 0 dX13_encode_171 rfl ?_
  refine z_aload_n X 0 dX13_encode_172 rfl ?_
  refine z_iload X 3 dX13_encode_173 rfl ?_
  refine clm_dataOf X K rfl h (Nat.le_of_ble_eq_true rfl) dX13_encode_175 (fun r2 σ1 h => ?_)
  refine clm_lengthIn X K rfl h (Nat.le_of_ble_eq_true rfl) dX13_encode_178 (fun r4 σ3 h => ?_)
  obtain ⟨i5, h⟩ := h
  refine z_if_lt X 187 dX13_encode_181 rfl i5 (fun c6 => ?_) (fun c6 => ?_)
  · have h := h.1 c6
    refine z_iincK X K 3 (lv' := [(4, .int (iz (v4 + 1))), (0, .ref (ad 0)), (1, .int (iz v1)), (3, .int (iz v3))]) dX13_encode_187 rfl rfl rfl ?_
    refine z_goto (tgt := 136) X dX13_encode_190 rfl ?_
    exact z_sub [1, 2, 3, 0] rfl (hC136 _ _ _ _ h)
  · have h := h.2 c6
    refine z_iload X 3 dX13_encode_184 rfl ?_
    refine z_istore_nK X K (lv' := [(3, .int (iz v4)), (0, .ref (ad 0)), (1, .int (iz v1)), (4, .int (iz v4))]) dX13_encode_186 rfl rfl ?_
    refine z_iincK X K 3 (lv' := [(4, .int (iz (v4 + 1))), (3, .int (iz v4)), (0, .ref (ad 0)), (1, .int (iz v1))]) dX13_encode_187 rfl rfl rfl ?_
    refine z_goto (tgt := 136) X dX13_encode_190 rfl ?_
    exact z_sub [2, 3, 1, 0] rfl (hC136 _ _ _ _ h)
set_option maxRecDepth 100000 in
theorem wkm_encode_136 {Γ : ZG} {l : Launch} {D : va_G} {cr : List vw_C} {ds : Nat → ClassId} {ad : Nat → Nat} {post : Int → ZS → Prop} (X : ZX Γ cX13_encode RX13 8 174) (K : ZCap Γ l (ΘM D cr ds ad) 7 0 0) (hR : ZRetI Γ cX13_encode .int 0 0 post) : ∀ (N : Nat) (v1 : Int) (v3 : Int) (v4 : Int) (σ : ZS), zfix (wbm_encode_136 post) N (v1, v3, v4, σ) → Z Γ 0 0 σ [] 136 [(0, .ref (ad 0)), (1, .int (iz v1)), (3, .int (iz v3)), (4, .int (iz v4))] [] := by
  intro N
  induction N with
  | zero => intro v1 v3 v4 σ h; exact False.elim h
  | succ N ih =>
    intro v1 v3 v4 σ h
    have h : wbm_encode_136 post (zfix (wbm_encode_136 post) N) (v1, v3, v4, σ) := h
    have hC136 := ih
    clear ih
    generalize zfix (wbm_encode_136 post) N = C136 at h hC136
    dsimp only [wbm_encode_136] at h
    refine z_iload X 3 dX13_encode_136 rfl ?_
    refine z_bipush X 30 dX13_encode_138 rfl ?_
    obtain ⟨i1, h⟩ := h
    refine z_icmp_ge X 193 dX13_encode_140 rfl i1 (by decide) (fun c2 => ?_) (fun c2 => ?_)
    · have h := h.1 c2
      refine z_iload_n X 2 dX13_encode_193 rfl ?_
      obtain ⟨i3, h⟩ := h
      refine z_if_ge X 199 dX13_encode_194 rfl i3 (fun c4 => ?_) (fun c4 => ?_)
      · have h := h.1 c4
        refine z_aload_n X 0 dX13_encode_199 rfl ?_
        refine z_iload_n X 2 dX13_encode_200 rfl ?_
        refine clm_dataOf X K rfl h (Nat.le_of_ble_eq_true rfl) dX13_encode_201 (fun r6 σ5 h => ?_)
        refine z_istoreK X K (lv' := [(4, .int (iz r6)), (0, .ref (ad 0)), (1, .int (iz v1)), (3, .int (iz v3))]) dX13_encode_204 rfl rfl ?_
        refine z_aload_n X 1 dX13_encode_206 rfl ?_
        refine z_aload_n X 1 dX13_encode_207 rfl ?_
        refine z_iload X 0 dX13_encode_208 rfl ?_
        refine clm_lengthIn X K rfl h (Nat.le_of_ble_eq_true rfl) dX13_encode_210 (fun r8 σ7 h => ?_)
        refine pM_51 X K dX13_encode_213 (fun σ9 eσ9 => ?_)
        have h := h σ9 eσ9
        refine z_aload_n X 1 dX13_encode_216 rfl ?_
        refine z_iconst X 3 dX13_encode_217 ?_
        refine z_iload X 0 dX13_encode_218 rfl ?_
        refine z_aload_n X 1 dX13_encode_220 rfl ?_
        refine gM_51 X K dX13_encode_221 ?_
        refine z_isub X dX13_encode_224 ?_
        refine clm_least X K rfl h (Nat.le_of_ble_eq_true rfl) dX13_encode_225 (fun r11 σ10 h => ?_)
        refine pM_47 X K dX13_encode_228 (fun σ12 eσ12 => ?_)
        have h := h σ12 eσ12
        refine z_aload_n X 1 dX13_encode_231 rfl ?_
        refine gM_47 X K dX13_encode_232 ?_
        refine z_iconst X 3 dX13_encode_235 ?_
        obtain ⟨i13, h⟩ := h
        refine z_icmp_ne X 243 dX13_encode_236 rfl i13 (by decide) (fun c14 => ?_) (fun c14 => ?_)
        · have h := h.1 c14
          refine z_iconst X 4 dX13_encode_243 ?_
          refine z_aload_n X 1 dX13_encode_244 rfl ?_
          refine gM_47 X K dX13_encode_245 ?_
          refine z_iadd X dX13_encode_248 ?_
          exact z_sub [1, 3, 0] rfl (wkm_encode_249 X K hR _ _ _ _ h)
        · have h := h.2 c14
          refine z_iconst X 3 dX13_encode_239 ?_
          refine z_goto (tgt := 249) X dX13_encode_240 rfl ?_
          exact z_sub [1, 3, 0] rfl (wkm_encode_249 X K hR _ _ _ _ h)
      · have h := h.2 c4
        refine z_iconst X (-1) dX13_encode_197 ?_
        exact hR _ _ _ _ _ _ _ dX13_encode_198 rfl (Nat.le_refl 0) (Nat.le_refl 0) h
    · have h := h.2 c2
      refine z_aload_n X 0 dX13_encode_143 rfl ?_
      refine z_iload X 3 dX13_encode_144 rfl ?_
      refine z_iload_n X 1 dX13_encode_146 rfl ?_
      refine clm_isAllowed X K rfl h (Nat.le_of_ble_eq_true rfl) dX13_encode_147 (fun r16 σ15 h => ?_)
      obtain ⟨b16, h⟩ := h
      have h := h b16
      refine z_if_eq X 187 dX13_encode_150 rfl (InR_b b16) (fun c18 => ?_) (fun c18 => ?_)
      · have h := h.1 c18
        refine z_iincK X K 3 (lv' := [(4, .int (iz (v4 + 1))), (0, .ref (ad 0)), (1, .int (iz v1)), (3, .int (iz v3))]) dX13_encode_187 rfl rfl rfl ?_
        refine z_goto (tgt := 136) X dX13_encode_190 rfl ?_
        exact z_sub [1, 2, 3, 0] rfl (hC136 _ _ _ _ h)
      · have h := h.2 c18
        refine z_iload_n X 2 dX13_encode_153 rfl ?_
        obtain ⟨i19, h⟩ := h
        refine z_if_lt X 171 dX13_encode_154 rfl i19 (fun c20 => ?_) (fun c20 => ?_)
        · have h := h.1 c20
          exact z_sub [0, 1, 2, 3] rfl (wkm_encode_171 X K hR hC136 _ _ _ _ h)
        · have h := h.2 c20
          refine z_aload_n X 0 dX13_encode_157 rfl ?_
          refine z_iload X 3 dX13_encode_158 rfl ?_
          refine clm_dataOf X K rfl h (Nat.le_of_ble_eq_true rfl) dX13_encode_160 (fun r22 σ21 h => ?_)
          refine z_aload_n X 0 dX13_encode_163 rfl ?_
          refine z_iload_n X 2 dX13_encode_164 rfl ?_
          refine clm_dataOf X K rfl h (Nat.le_of_ble_eq_true rfl) dX13_encode_165 (fun r24 σ23 h => ?_)
          obtain ⟨i25, h⟩ := h
          obtain ⟨i26, h⟩ := h
          refine z_icmp_ge X 187 dX13_encode_168 rfl i25 i26 (fun c27 => ?_) (fun c27 => ?_)
          · have h := h.1 c27
            refine z_iincK X K 3 (lv' := [(4, .int (iz (v4 + 1))), (0, .ref (ad 0)), (1, .int (iz v1)), (3, .int (iz v3))]) dX13_encode_187 rfl rfl rfl ?_
            refine z_goto (tgt := 136) X dX13_encode_190 rfl ?_
            exact z_sub [1, 2, 3, 0] rfl (hC136 _ _ _ _ h)
          · have h := h.2 c27
            exact z_sub [0, 1, 2, 3] rfl (wkm_encode_171 X K hR hC136 _ _ _ _ h)
set_option maxRecDepth 100000 in
theorem wkm_encode_131 {Γ : ZG} {l : Launch} {D : va_G} {cr : List vw_C} {ds : Nat → ClassId} {ad : Nat → Nat} {post : Int → ZS → Prop} (X : ZX Γ cX13_encode RX13 8 174) (K : ZCap Γ l (ΘM D cr ds ad) 7 0 0) (hR : ZRetI Γ cX13_encode .int 0 0 post) (v1 : Int) (σ : ZS) (h : wm_encode_131 post v1 σ) : Z Γ 0 0 σ [] 131 [(0, .ref (ad 0)), (1, .int (iz v1))] [] := by
  refine z_iconst X (-1) dX13_encode_131 ?_
  refine z_istore_nK X K (lv' := [(3, .int (iz (-1))), (0, .ref (ad 0)), (1, .int (iz v1))]) dX13_encode_132 rfl rfl ?_
  refine z_iconst X 0 dX13_encode_133 ?_
  refine z_istoreK X K (lv' := [(4, .int (iz 0)), (3, .int (iz (-1))), (0, .ref (ad 0)), (1, .int (iz v1))]) dX13_encode_134 rfl rfl ?_
  obtain ⟨N, h⟩ := h
  exact z_sub [2, 3, 1, 0] rfl (wkm_encode_136 X K hR N _ _ _ _ h)
set_option maxRecDepth 100000 in
theorem wkm_encode_105 {Γ : ZG} {l : Launch} {D : va_G} {cr : List vw_C} {ds : Nat → ClassId} {ad : Nat → Nat} {post : Int → ZS → Prop} (X : ZX Γ cX13_encode RX13 8 174) (K : ZCap Γ l (ΘM D cr ds ad) 7 0 0) (hR : ZRetI Γ cX13_encode .int 0 0 post) : ∀ (N : Nat) (v1 : Int) (v2 : Int) (v3 : Int) (σ : ZS), zfix (wbm_encode_105 post) N (v1, v2, v3, σ) → Z Γ 0 0 σ [] 105 [(0, .ref (ad 0)), (1, .int (iz v1)), (2, .int (iz v2)), (3, .int (iz v3))] [] := by
  intro N
  induction N with
  | zero => intro v1 v2 v3 σ h; exact False.elim h
  | succ N ih =>
    intro v1 v2 v3 σ h
    have h : wbm_encode_105 post (zfix (wbm_encode_105 post) N) (v1, v2, v3, σ) := h
    have hC105 := ih
    clear ih
    generalize zfix (wbm_encode_105 post) N = C105 at h hC105
    dsimp only [wbm_encode_105] at h
    refine z_iload_n X 3 dX13_encode_105 rfl ?_
    refine z_bipush X 7 dX13_encode_106 rfl ?_
    obtain ⟨i1, h⟩ := h
    refine z_icmp_ge X 131 dX13_encode_108 rfl i1 (by decide) (fun c2 => ?_) (fun c2 => ?_)
    · have h := h.1 c2
      exact z_sub [0, 1] rfl (wkm_encode_131 X K hR _ _ h)
    · have h := h.2 c2
      refine z_iload_n X 2 dX13_encode_111 rfl ?_
      obtain ⟨i3, h⟩ := h
      refine z_if_eq X 131 dX13_encode_112 rfl i3 (fun c4 => ?_) (fun c4 => ?_)
      · have h := h.1 c4
        exact z_sub [0, 1] rfl (wkm_encode_131 X K hR _ _ h)
      · have h := h.2 c4
        refine z_iload_n X 3 dX13_encode_115 rfl ?_
        refine z_iconst X 3 dX13_encode_116 ?_
        refine z_icmp_eq X 125 dX13_encode_117 rfl i1 (by decide) (fun c5 => ?_) (fun c5 => ?_)
        · have h := h.1 c5
          refine z_iincK X K 3 (lv' := [(3, .int (iz (v3 + 1))), (0, .ref (ad 0)), (1, .int (iz v1)), (2, .int (iz v2))]) dX13_encode_125 rfl rfl rfl ?_
          refine z_goto (tgt := 105) X dX13_encode_128 rfl ?_
          exact z_sub [1, 2, 3, 0] rfl (hC105 _ _ _ _ h)
        · have h := h.2 c5
          refine z_aload_n X 0 dX13_encode_120 rfl ?_
          refine z_iload_n X 3 dX13_encode_121 rfl ?_
          refine clm_work X K rfl h (Nat.le_of_ble_eq_true rfl) dX13_encode_122 (fun σ6 h => ?_)
          refine z_iincK X K 3 (lv' := [(3, .int (iz (v3 + 1))), (0, .ref (ad 0)), (1, .int (iz v1)), (2, .int (iz v2))]) dX13_encode_125 rfl rfl rfl ?_
          refine z_goto (tgt := 105) X dX13_encode_128 rfl ?_
          exact z_sub [1, 2, 3, 0] rfl (hC105 _ _ _ _ h)
set_option maxRecDepth 100000 in
theorem wkm_encode_96 {Γ : ZG} {l : Launch} {D : va_G} {cr : List vw_C} {ds : Nat → ClassId} {ad : Nat → Nat} {post : Int → ZS → Prop} (X : ZX Γ cX13_encode RX13 8 174) (K : ZCap Γ l (ΘM D cr ds ad) 7 0 0) (hR : ZRetI Γ cX13_encode .int 0 0 post) {C43 : Int × Int × Int × ZS → Prop} (hC43 : ∀ (v1 : Int) (v2 : Int) (v3 : Int) (σ : ZS), C43 (v1, v2, v3, σ) → Z Γ 0 0 σ [] 43 [(0, .ref (ad 0)), (1, .int (iz v1)), (2, .int (iz v2)), (3, .int (iz v3))] []) (v1 : Int) (v3 : Int) (t0 : Int) (σ : ZS) (h : wm_encode_96 C43 post v1 v3 t0 σ) : Z Γ 0 0 σ [] 96 [(0, .ref (ad 0)), (1, .int (iz v1)), (3, .int (iz v3))] [.int (iz t0)] := by
  refine z_istore_nK X K (lv' := [(2, .int (iz t0)), (0, .ref (ad 0)), (1, .int (iz v1)), (3, .int (iz v3))]) dX13_encode_96 rfl rfl ?_
  refine z_iincK X K 3 (lv' := [(3, .int (iz (v3 + 1))), (2, .int (iz t0)), (0, .ref (ad 0)), (1, .int (iz v1))]) dX13_encode_97 rfl rfl rfl ?_
  refine z_goto (tgt := 43) X dX13_encode_100 rfl ?_
  exact z_sub [2, 3, 1, 0] rfl (hC43 _ _ _ _ h)
set_option maxRecDepth 100000 in
theorem wkm_encode_95 {Γ : ZG} {l : Launch} {D : va_G} {cr : List vw_C} {ds : Nat → ClassId} {ad : Nat → Nat} {post : Int → ZS → Prop} (X : ZX Γ cX13_encode RX13 8 174) (K : ZCap Γ l (ΘM D cr ds ad) 7 0 0) (hR : ZRetI Γ cX13_encode .int 0 0 post) {C43 : Int × Int × Int × ZS → Prop} (hC43 : ∀ (v1 : Int) (v2 : Int) (v3 : Int) (σ : ZS), C43 (v1, v2, v3, σ) → Z Γ 0 0 σ [] 43 [(0, .ref (ad 0)), (1, .int (iz v1)), (2, .int (iz v2)), (3, .int (iz v3))] []) (v1 : Int) (v3 : Int) (σ : ZS) (h : wm_encode_95 C43 post v1 v3 σ) : Z Γ 0 0 σ [] 95 [(0, .ref (ad 0)), (1, .int (iz v1)), (3, .int (iz v3))] [] := by
  refine z_iconst X 0 dX13_encode_95 ?_
  exact z_sub [0, 1, 2] rfl (wkm_encode_96 X K hR hC43 _ _ _ _ h)
set_option maxRecDepth 100000 in
theorem wkm_encode_43 {Γ : ZG} {l : Launch} {D : va_G} {cr : List vw_C} {ds : Nat → ClassId} {ad : Nat → Nat} {post : Int → ZS → Prop} (X : ZX Γ cX13_encode RX13 8 174) (K : ZCap Γ l (ΘM D cr ds ad) 7 0 0) (hR : ZRetI Γ cX13_encode .int 0 0 post) : ∀ (N : Nat) (v1 : Int) (v2 : Int) (v3 : Int) (σ : ZS), zfix (wbm_encode_43 post) N (v1, v2, v3, σ) → Z Γ 0 0 σ [] 43 [(0, .ref (ad 0)), (1, .int (iz v1)), (2, .int (iz v2)), (3, .int (iz v3))] [] := by
  intro N
  induction N with
  | zero => intro v1 v2 v3 σ h; exact False.elim h
  | succ N ih =>
    intro v1 v2 v3 σ h
    have h : wbm_encode_43 post (zfix (wbm_encode_43 post) N) (v1, v2, v3, σ) := h
    have hC43 := ih
    clear ih
    generalize zfix (wbm_encode_43 post) N = C43 at h hC43
    dsimp only [wbm_encode_43] at h
    refine z_iload_n X 3 dX13_encode_43 rfl ?_
    refine z_bipush X 30 dX13_encode_44 rfl ?_
    obtain ⟨i1, h⟩ := h
    refine z_icmp_ge X 103 dX13_encode_46 rfl i1 (by decide) (fun c2 => ?_) (fun c2 => ?_)
    · have h := h.1 c2
      refine z_iconst X 0 dX13_encode_103 ?_
      refine z_istore_nK X K (lv' := [(3, .int (iz 0)), (0, .ref (ad 0)), (1, .int (iz v1)), (2, .int (iz v2))]) dX13_encode_104 rfl rfl ?_
      obtain ⟨N, h⟩ := h
      exact z_sub [1, 2, 3, 0] rfl (wkm_encode_105 X K hR N _ _ _ _ h)
    · have h := h.2 c2
      refine z_aload_n X 0 dX13_encode_49 rfl ?_
      refine z_iload_n X 3 dX13_encode_50 rfl ?_
      refine clm_dataOf X K rfl h (Nat.le_of_ble_eq_true rfl) dX13_encode_51 (fun r4 σ3 h => ?_)
      refine z_aload_n X 0 dX13_encode_54 rfl ?_
      refine gM_41 X K dX13_encode_55 ?_
      refine z_sipush X 9603 dX13_encode_58 rfl ?_
      refine aM_23 X K dX13_encode_61 (by decide) ?_
      refine z_isub X dX13_encode_62 ?_
      refine z_topi (fun v4_5 ev4_5 => ?_)
      have h := h v4_5 ev4_5
      refine z_istoreK X K (lv' := [(4, .int (iz v4_5)), (0, .ref (ad 0)), (1, .int (iz v1)), (2, .int (iz v2)), (3, .int (iz v3))]) dX13_encode_63 rfl rfl ?_
      refine z_iload_n X 3 dX13_encode_65 rfl ?_
      obtain ⟨i6, h⟩ := h
      refine z_if_ne X 91 dX13_encode_66 rfl i6 (fun c7 => ?_) (fun c7 => ?_)
      · have h := h.1 c7
        refine z_iconst X 1 dX13_encode_91 ?_
        refine z_goto (tgt := 96) X dX13_encode_92 rfl ?_
        exact z_sub [1, 2, 4] rfl (wkm_encode_96 X K hR hC43 _ _ _ _ h)
      · have h := h.2 c7
        refine z_aload_n X 1 dX13_encode_69 rfl ?_
        refine z_iload_n X 4 dX13_encode_70 rfl ?_
        refine z_iload_n X 2 dX13_encode_71 rfl ?_
        refine clm_isAllowed X K rfl h (Nat.le_of_ble_eq_true rfl) dX13_encode_72 (fun r9 σ8 h => ?_)
        obtain ⟨b9, h⟩ := h
        have h := h b9
        refine z_if_eq X 95 dX13_encode_75 rfl (InR_b b9) (fun c11 => ?_) (fun c11 => ?_)
        · have h := h.1 c11
          exact z_sub [1, 2, 4] rfl (wkm_encode_95 X K hR hC43 _ _ _ h)
        · have h := h.2 c11
          refine z_iload X 0 dX13_encode_78 rfl ?_
          refine z_bipush X (-2) dX13_encode_80 rfl ?_
          obtain ⟨i12, h⟩ := h
          refine z_icmp_le X 95 dX13_encode_82 rfl i12 (by decide) (fun c13 => ?_) (fun c13 => ?_)
          · have h := h.1 c13
            exact z_sub [1, 2, 4] rfl (wkm_encode_95 X K hR hC43 _ _ _ h)
          · have h := h.2 c13
            refine z_iload X 0 dX13_encode_85 rfl ?_
            refine z_iconst X 3 dX13_encode_87 ?_
            refine z_icmp_ge X 95 dX13_encode_88 rfl i12 (by decide) (fun c14 => ?_) (fun c14 => ?_)
            · have h := h.1 c14
              exact z_sub [1, 2, 4] rfl (wkm_encode_95 X K hR hC43 _ _ _ h)
            · have h := h.2 c14
              refine z_iconst X 1 dX13_encode_91 ?_
              refine z_goto (tgt := 96) X dX13_encode_92 rfl ?_
              exact z_sub [1, 2, 4] rfl (wkm_encode_96 X K hR hC43 _ _ _ _ h)
set_option maxRecDepth 100000 in
theorem wkm_encode_24 {Γ : ZG} {l : Launch} {D : va_G} {cr : List vw_C} {ds : Nat → ClassId} {ad : Nat → Nat} {post : Int → ZS → Prop} (X : ZX Γ cX13_encode RX13 8 174) (K : ZCap Γ l (ΘM D cr ds ad) 7 0 0) (hR : ZRetI Γ cX13_encode .int 0 0 post) (v1 : Int) (σ : ZS) (h : wm_encode_24 post v1 σ) : Z Γ 0 0 σ [] 24 [(0, .ref (ad 0)), (1, .int (iz v1))] [] := by
  refine z_iload_n X 1 dX13_encode_24 rfl ?_
  refine z_sipush X 129 dX13_encode_25 rfl ?_
  obtain ⟨i1, h⟩ := h
  refine z_icmp_le X 34 dX13_encode_28 rfl i1 (by decide) (fun c2 => ?_) (fun c2 => ?_)
  · have h := h.1 c2
    refine z_aload_n X 0 dX13_encode_34 rfl ?_
    refine z_iconst X 3 dX13_encode_35 ?_
    refine clm_work X K rfl h (Nat.le_of_ble_eq_true rfl) dX13_encode_36 (fun σ3 h => ?_)
    refine z_iconst X 0 dX13_encode_39 ?_
    refine z_istore_nK X K (lv' := [(2, .int (iz 0)), (0, .ref (ad 0)), (1, .int (iz v1))]) dX13_encode_40 rfl rfl ?_
    refine z_iconst X 0 dX13_encode_41 ?_
    refine z_istore_nK X K (lv' := [(3, .int (iz 0)), (2, .int (iz 0)), (0, .ref (ad 0)), (1, .int (iz v1))]) dX13_encode_42 rfl rfl ?_
    obtain ⟨N, h⟩ := h
    exact z_sub [2, 3, 1, 0] rfl (wkm_encode_43 X K hR N _ _ _ _ h)
  · have h := h.2 c2
    refine z_bipush X (-2) dX13_encode_31 rfl ?_
    exact hR _ _ _ _ _ _ _ dX13_encode_33 rfl (Nat.le_refl 0) (Nat.le_refl 0) h
set_option maxRecDepth 100000 in
theorem mt_encode (l : Launch) (D : va_G) (cr : List vw_C) (ds : Nat → ClassId) (ad : Nat → Nat) (a0 : Int) (σ : ZS) (post : Int → ZS → Prop) (h : wm_encode a0 σ post) : ZMetI l (ΘM D cr ds ad) yX13_encode cX13_encode 7 .int 8 174 0 0 [.ref (ad 0), .int (iz a0)] σ post := by
  refine ZMetI.of (by decide) (Nat.le_of_ble_eq_true rfl) (fun Γ X K hR => ?_)
  have X : ZX Γ cX13_encode RX13 8 174 := X
  refine z_sub [0, 1] (lv' := [(0, .ref (ad 0)), (1, .int (iz a0))]) rfl ?_
  refine z_aload_n X 0 dX13_encode_0 rfl ?_
  refine z_iconst X 0 dX13_encode_1 ?_
  refine pM_0 X K dX13_encode_2 (fun σ1 eσ1 => ?_)
  have h := h σ1 eσ1
  refine z_aload_n X 0 dX13_encode_5 rfl ?_
  refine clm_takeTape X K rfl h (Nat.le_of_ble_eq_true rfl) dX13_encode_6 (fun σ2 h => ?_)
  refine z_iload_n X 1 dX13_encode_9 rfl ?_
  obtain ⟨i3, h⟩ := h
  refine z_if_lt X 31 dX13_encode_10 rfl i3 (fun c4 => ?_) (fun c4 => ?_)
  · have h := h.1 c4
    refine z_bipush X (-2) dX13_encode_31 rfl ?_
    exact hR _ _ _ _ _ _ _ dX13_encode_33 rfl (Nat.le_refl 0) (Nat.le_refl 0) h
  · have h := h.2 c4
    refine z_iload_n X 1 dX13_encode_13 rfl ?_
    refine z_iconst X 2 dX13_encode_14 ?_
    refine z_icmp_le X 24 dX13_encode_15 rfl i3 (by decide) (fun c5 => ?_) (fun c5 => ?_)
    · have h := h.1 c5
      exact z_sub [0, 1] rfl (wkm_encode_24 X K hR _ _ h)
    · have h := h.2 c5
      refine z_iload_n X 1 dX13_encode_18 rfl ?_
      refine z_bipush X 100 dX13_encode_19 rfl ?_
      refine z_icmp_lt X 31 dX13_encode_21 rfl i3 (by decide) (fun c6 => ?_) (fun c6 => ?_)
      · have h := h.1 c6
        refine z_bipush X (-2) dX13_encode_31 rfl ?_
        exact hR _ _ _ _ _ _ _ dX13_encode_33 rfl (Nat.le_refl 0) (Nat.le_refl 0) h
      · have h := h.2 c6
        exact z_sub [0, 1] rfl (wkm_encode_24 X K hR _ _ h)
/- X13_step -/
set_option maxRecDepth 100000 in
theorem wkm_step_27 {Γ : ZG} {l : Launch} {D : va_G} {cr : List vw_C} {ds : Nat → ClassId} {ad : Nat → Nat} {post : Int → ZS → Prop} (X : ZX Γ cX13_step RX13 1 0) (K : ZCap Γ l (ΘM D cr ds ad) 3 0 0) (hR : ZRetI Γ cX13_step .int 0 0 post) (v1 : Int) (v2 : Int) (t0 : Int) (σ : ZS) (h : wm_step_27 post v1 v2 t0 σ) : Z Γ 0 0 σ [] 27 [(0, .ref (ad 0)), (1, .int (iz v1)), (2, .int (iz v2))] [.int (iz t0), .ref (ad 0)] := by
  refine pM_0 X K dX13_step_27 (fun σ1 eσ1 => ?_)
  have h := h σ1 eσ1
  refine z_aload_n X 0 dX13_step_30 rfl ?_
  refine gM_0 X K dX13_step_31 ?_
  obtain ⟨i2, h⟩ := h
  refine z_if_le X 39 dX13_step_34 rfl i2 (fun c3 => ?_) (fun c3 => ?_)
  · have h := h.1 c3
    refine z_iload_n X 2 dX13_step_39 rfl ?_
    obtain ⟨i4, h⟩ := h
    refine z_if_ne X 52 dX13_step_40 rfl i4 (fun c5 => ?_) (fun c5 => ?_)
    · have h := h.1 c5
      refine z_iload_n X 2 dX13_step_52 rfl ?_
      refine z_iconst X 1 dX13_step_53 ?_
      refine z_icmp_ne X 66 dX13_step_54 rfl i4 (by decide) (fun c6 => ?_) (fun c6 => ?_)
      · have h := h.1 c6
        refine z_iload_n X 2 dX13_step_66 rfl ?_
        refine z_iconst X 2 dX13_step_67 ?_
        refine z_icmp_ne X 80 dX13_step_68 rfl i4 (by decide) (fun c7 => ?_) (fun c7 => ?_)
        · have h := h.1 c7
          refine z_aload_n X 0 dX13_step_80 rfl ?_
          refine gM_57 X K dX13_step_81 ?_
          refine z_iload_n X 1 dX13_step_84 rfl ?_
          obtain ⟨x8, h⟩ := h
          refine aM_31 X K dX13_step_85 x8 ?_
          exact hR _ _ _ _ _ _ _ dX13_step_86 rfl (Nat.le_refl 0) (Nat.le_refl 0) h
        · have h := h.2 c7
          refine z_aload_n X 0 dX13_step_71 rfl ?_
          refine gM_56 X K dX13_step_72 ?_
          refine z_iload_n X 1 dX13_step_75 rfl ?_
          obtain ⟨x9, h⟩ := h
          refine aM_30 X K dX13_step_76 x9 ?_
          refine z_goto (tgt := 86) X dX13_step_77 rfl ?_
          exact hR _ _ _ _ _ _ _ dX13_step_86 rfl (Nat.le_refl 0) (Nat.le_refl 0) h
      · have h := h.2 c6
        refine z_aload_n X 0 dX13_step_57 rfl ?_
        refine gM_55 X K dX13_step_58 ?_
        refine z_iload_n X 1 dX13_step_61 rfl ?_
        obtain ⟨x10, h⟩ := h
        refine aM_29 X K dX13_step_62 x10 ?_
        refine z_goto (tgt := 86) X dX13_step_63 rfl ?_
        exact hR _ _ _ _ _ _ _ dX13_step_86 rfl (Nat.le_refl 0) (Nat.le_refl 0) h
    · have h := h.2 c5
      refine z_aload_n X 0 dX13_step_43 rfl ?_
      refine gM_54 X K dX13_step_44 ?_
      refine z_iload_n X 1 dX13_step_47 rfl ?_
      obtain ⟨x11, h⟩ := h
      refine aM_28 X K dX13_step_48 x11 ?_
      refine z_goto (tgt := 86) X dX13_step_49 rfl ?_
      exact hR _ _ _ _ _ _ _ dX13_step_86 rfl (Nat.le_refl 0) (Nat.le_refl 0) h
  · have h := h.2 c3
    refine z_iconst X 0 dX13_step_37 ?_
    exact hR _ _ _ _ _ _ _ dX13_step_38 rfl (Nat.le_refl 0) (Nat.le_refl 0) h
set_option maxRecDepth 100000 in
theorem wkm_step_26 {Γ : ZG} {l : Launch} {D : va_G} {cr : List vw_C} {ds : Nat → ClassId} {ad : Nat → Nat} {post : Int → ZS → Prop} (X : ZX Γ cX13_step RX13 1 0) (K : ZCap Γ l (ΘM D cr ds ad) 3 0 0) (hR : ZRetI Γ cX13_step .int 0 0 post) (v1 : Int) (v2 : Int) (σ : ZS) (h : wm_step_26 post v1 v2 σ) : Z Γ 0 0 σ [] 26 [(0, .ref (ad 0)), (1, .int (iz v1)), (2, .int (iz v2))] [.ref (ad 0)] := by
  refine z_iconst X 1 dX13_step_26 ?_
  exact z_sub [0, 1, 2] rfl (wkm_step_27 X K hR _ _ _ _ h)
set_option maxRecDepth 100000 in
theorem mt_step (l : Launch) (D : va_G) (cr : List vw_C) (ds : Nat → ClassId) (ad : Nat → Nat) (a0 : Int) (a1 : Int) (σ : ZS) (post : Int → ZS → Prop) (h : wm_step a0 a1 σ post) : ZMetI l (ΘM D cr ds ad) yX13_step cX13_step 3 .int 1 0 0 0 [.ref (ad 0), .int (iz a0), .int (iz a1)] σ post := by
  refine ZMetI.of (by decide) (Nat.le_of_ble_eq_true rfl) (fun Γ X K hR => ?_)
  have X : ZX Γ cX13_step RX13 1 0 := X
  refine z_sub [0, 1, 2] (lv' := [(0, .ref (ad 0)), (1, .int (iz a0)), (2, .int (iz a1))]) rfl ?_
  refine z_aload_n X 0 dX13_step_0 rfl ?_
  refine z_iload_n X 1 dX13_step_1 rfl ?_
  obtain ⟨i1, h⟩ := h
  refine z_if_lt X 26 dX13_step_2 rfl i1 (fun c2 => ?_) (fun c2 => ?_)
  · have h := h.1 c2
    exact z_sub [0, 1, 2] rfl (wkm_step_26 X K hR _ _ _ h)
  · have h := h.2 c2
    refine z_iload_n X 1 dX13_step_5 rfl ?_
    refine z_aload_n X 0 dX13_step_6 rfl ?_
    refine gM_53 X K dX13_step_7 ?_
    obtain ⟨i3, h⟩ := h
    refine z_icmp_ge X 26 dX13_step_10 rfl i1 i3 (fun c4 => ?_) (fun c4 => ?_)
    · have h := h.1 c4
      exact z_sub [0, 1, 2] rfl (wkm_step_26 X K hR _ _ _ h)
    · have h := h.2 c4
      refine z_iload_n X 2 dX13_step_13 rfl ?_
      obtain ⟨i5, h⟩ := h
      refine z_if_lt X 26 dX13_step_14 rfl i5 (fun c6 => ?_) (fun c6 => ?_)
      · have h := h.1 c6
        exact z_sub [0, 1, 2] rfl (wkm_step_26 X K hR _ _ _ h)
      · have h := h.2 c6
        refine z_iload_n X 2 dX13_step_17 rfl ?_
        refine z_iconst X 4 dX13_step_18 ?_
        refine z_icmp_ge X 26 dX13_step_19 rfl i5 (by decide) (fun c7 => ?_) (fun c7 => ?_)
        · have h := h.1 c7
          exact z_sub [0, 1, 2] rfl (wkm_step_26 X K hR _ _ _ h)
        · have h := h.2 c7
          refine z_iconst X 0 dX13_step_22 ?_
          refine z_goto (tgt := 27) X dX13_step_23 rfl ?_
          exact z_sub [0, 1, 2] rfl (wkm_step_27 X K hR _ _ _ _ h)
/- X13_about -/
set_option maxRecDepth 100000 in
theorem mt_about (l : Launch) (D : va_G) (cr : List vw_C) (ds : Nat → ClassId) (ad : Nat → Nat) (a0 : Int) (σ : ZS) (post : Int → ZS → Prop) (h : wm_about a0 σ post) : ZMetI l (ΘM D cr ds ad) yX13_about cX13_about 2 .int 1 0 0 0 [.ref (ad 0), .int (iz a0)] σ post := by
  refine ZMetI.of (by decide) (Nat.le_of_ble_eq_true rfl) (fun Γ X K hR => ?_)
  have X : ZX Γ cX13_about RX13 1 0 := X
  refine z_sub [0, 1] (lv' := [(0, .ref (ad 0)), (1, .int (iz a0))]) rfl ?_
  refine z_aload_n X 0 dX13_about_0 rfl ?_
  refine z_iconst X 0 dX13_about_1 ?_
  refine pM_0 X K dX13_about_2 (fun σ1 eσ1 => ?_)
  have h := h σ1 eσ1
  refine z_iload_n X 1 dX13_about_5 rfl ?_
  obtain ⟨i2, h⟩ := h
  obtain ⟨k, h⟩ := h
  by_cases c3 : a0 = 0
  · refine z_swIn X 0 48 dX13_about_6 c3 (by decide) (by decide) (by decide) rfl rfl ?_
    have h := k c3
    refine z_aload_n X 0 dX13_about_48 rfl ?_
    refine gM_18 X K dX13_about_49 ?_
    exact hR _ _ _ _ _ _ _ dX13_about_52 rfl (Nat.le_refl 0) (Nat.le_refl 0) h
  · obtain ⟨k, h⟩ := h
    by_cases c4 : a0 = 1
    · refine z_swIn X 1 53 dX13_about_6 c4 (by decide) (by decide) (by decide) rfl rfl ?_
      have h := k c4
      refine z_aload_n X 0 dX13_about_53 rfl ?_
      refine gM_51 X K dX13_about_54 ?_
      exact hR _ _ _ _ _ _ _ dX13_about_57 rfl (Nat.le_refl 0) (Nat.le_refl 0) h
    · obtain ⟨k, h⟩ := h
      by_cases c5 : a0 = 2
      · refine z_swIn X 2 58 dX13_about_6 c5 (by decide) (by decide) (by decide) rfl rfl ?_
        have h := k c5
        refine z_aload_n X 0 dX13_about_58 rfl ?_
        refine gM_53 X K dX13_about_59 ?_
        exact hR _ _ _ _ _ _ _ dX13_about_62 rfl (Nat.le_refl 0) (Nat.le_refl 0) h
      · obtain ⟨k, h⟩ := h
        by_cases c6 : a0 = 3
        · refine z_swIn X 3 63 dX13_about_6 c6 (by decide) (by decide) (by decide) rfl rfl ?_
          have h := k c6
          refine z_aload_n X 0 dX13_about_63 rfl ?_
          refine gM_52 X K dX13_about_64 ?_
          exact hR _ _ _ _ _ _ _ dX13_about_67 rfl (Nat.le_refl 0) (Nat.le_refl 0) h
        · obtain ⟨k, h⟩ := h
          by_cases c7 : a0 = 4
          · refine z_swIn X 4 68 dX13_about_6 c7 (by decide) (by decide) (by decide) rfl rfl ?_
            have h := k c7
            refine z_aload_n X 0 dX13_about_68 rfl ?_
            refine gM_10 X K dX13_about_69 ?_
            exact hR _ _ _ _ _ _ _ dX13_about_72 rfl (Nat.le_refl 0) (Nat.le_refl 0) h
          · obtain ⟨k, h⟩ := h
            by_cases c8 : a0 = 5
            · refine z_swIn X 5 73 dX13_about_6 c8 (by decide) (by decide) (by decide) rfl rfl ?_
              have h := k c8
              refine z_aload_n X 0 dX13_about_73 rfl ?_
              refine gM_33 X K dX13_about_74 ?_
              exact hR _ _ _ _ _ _ _ dX13_about_77 rfl (Nat.le_refl 0) (Nat.le_refl 0) h
            · obtain ⟨k, h⟩ := h
              by_cases c9 : a0 = 6
              · refine z_swIn X 6 78 dX13_about_6 c9 (by decide) (by decide) (by decide) rfl rfl ?_
                have h := k c9
                refine z_aload_n X 0 dX13_about_78 rfl ?_
                refine gM_40 X K dX13_about_79 ?_
                exact hR _ _ _ _ _ _ _ dX13_about_82 rfl (Nat.le_refl 0) (Nat.le_refl 0) h
              · have c : a0 < 0 ∨ 6 < a0 := by omega
                have h := h c
                refine z_swOut X 83 dX13_about_6 i2 c rfl ?_
                refine z_iconst X 0 dX13_about_83 ?_
                exact hR _ _ _ _ _ _ _ dX13_about_84 rfl (Nat.le_refl 0) (Nat.le_refl 0) h
