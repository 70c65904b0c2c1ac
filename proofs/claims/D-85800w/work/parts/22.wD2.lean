/-! the methods that make steps (printed by tools/walkgenD.py): field rows, what is asked (wd), walks -/
theorem gC_X12_39_X12 {Γ : ZG} {cc : ByteArray} {fr lo nL mc0 ms0 k n pc : Nat} {σ : ZS} {xs : va_W} {lv : List (Nat × Value)} {st : List Value} {l : Launch} {D : va_G} {ds : Nat → ClassId} {ad : Nat → Nat} (X : ZX Γ cc RX12 fr lo) (K : ZCap Γ l (ΘC D ds ad) nL mc0 ms0) (d : decode cc pc = .ok (.getfield 39, 3)) (h : Z Γ k n σ xs (pc + 3) lv (.ref (ad 48) :: st)) : Z Γ k n σ xs pc lv (.ref (ad 65) :: st) := z_get' (C := RX12) (T := TX12) (N0 := 12) (ref := RX12) (kd := 50) X K in_X12 65 (Nat.le_of_ble_eq_true rfl) rfl rfl 1 (Nat.le_of_ble_eq_true rfl) q481 (fun _ h => h) rfl d h
theorem gC_X12_118_X4 {Γ : ZG} {cc : ByteArray} {fr lo nL mc0 ms0 k n pc : Nat} {σ : ZS} {xs : va_W} {lv : List (Nat × Value)} {st : List Value} {l : Launch} {D : va_G} {ds : Nat → ClassId} {ad : Nat → Nat} (X : ZX Γ cc RX12 fr lo) (K : ZCap Γ l (ΘC D ds ad) nL mc0 ms0) {o : Nat} (ho : isSt o) (d : decode cc pc = .ok (.getfield 118, 3)) (h : Z Γ k n σ xs (pc + 3) lv (.int (iz (σ o 3)) :: st)) : Z Γ k n σ xs pc lv (.ref (ad o) :: st) := by
  rcases ho with rfl | rfl
  · exact z_getN' (C := RX4) (T := TX4) (N0 := 5) (ref := RX4) (host := "MatrixPress") (kd := 0) X K in_X4 45 (Nat.le_of_ble_eq_true rfl) rfl rfl 3 (Nat.le_of_ble_eq_true rfl) q228 (fun _ h => h) rfl d h
  · exact z_getN' (C := RX4) (T := TX4) (N0 := 5) (ref := RX4) (host := "MatrixPress") (kd := 0) X K in_X4 48 (Nat.le_of_ble_eq_true rfl) rfl rfl 3 (Nat.le_of_ble_eq_true rfl) q228 (fun _ h => h) rfl d h
theorem gC_X12_173_En {Γ : ZG} {cc : ByteArray} {fr lo nL mc0 ms0 k n pc : Nat} {σ : ZS} {xs : va_W} {lv : List (Nat × Value)} {st : List Value} {l : Launch} {D : va_G} {ds : Nat → ClassId} {ad : Nat → Nat} (X : ZX Γ cc RX12 fr lo) (K : ZCap Γ l (ΘC D ds ad) nL mc0 ms0) {o : Nat} (ho : isEn o) (d : decode cc pc = .ok (.getfield 173, 3)) (h : Z Γ k n σ xs (pc + 3) lv (.int (iz (latchOf σ o)) :: st)) : Z Γ k n σ xs pc lv (.ref (ad o) :: st) := by
  rcases ho with rfl | rfl | rfl | rfl | rfl
  · exact z_getN' (C := RX8) (T := TX8) (N0 := 7) (ref := RX6) (host := "MatrixPress") (kd := 0) X K in_X8 53 (Nat.le_of_ble_eq_true rfl) rfl rfl 2 (Nat.le_of_ble_eq_true rfl) q354 (fun _ h => h) rfl d h
  · exact z_getN' (C := RX8) (T := TX8) (N0 := 7) (ref := RX6) (host := "MatrixPress") (kd := 0) X K in_X8 56 (Nat.le_of_ble_eq_true rfl) rfl rfl 2 (Nat.le_of_ble_eq_true rfl) q354 (fun _ h => h) rfl d h
  · exact z_getN' (C := RX9) (T := TX9) (N0 := 4) (ref := RX6) (host := "MatrixPress") (kd := 0) X K in_X9 59 (Nat.le_of_ble_eq_true rfl) rfl rfl 2 (Nat.le_of_ble_eq_true rfl) q354 (fun _ h => h) rfl d h
  · exact z_getN' (C := RX10) (T := TX10) (N0 := 4) (ref := RX6) (host := "MatrixPress") (kd := 0) X K in_X10 62 (Nat.le_of_ble_eq_true rfl) rfl rfl 0 (Nat.le_of_ble_eq_true rfl) q354 (fun _ h => h) rfl d h
  · exact z_getN' (C := RX11) (T := TX11) (N0 := 2) (ref := RX6) (host := "MatrixPress") (kd := 0) X K in_X11 64 (Nat.le_of_ble_eq_true rfl) rfl rfl 0 (Nat.le_of_ble_eq_true rfl) q354 (fun _ h => h) rfl d h
theorem gC_X12_32_X12 {Γ : ZG} {cc : ByteArray} {fr lo nL mc0 ms0 k n pc : Nat} {σ : ZS} {xs : va_W} {lv : List (Nat × Value)} {st : List Value} {l : Launch} {D : va_G} {ds : Nat → ClassId} {ad : Nat → Nat} (X : ZX Γ cc RX12 fr lo) (K : ZCap Γ l (ΘC D ds ad) nL mc0 ms0) (d : decode cc pc = .ok (.getfield 32, 3)) (h : Z Γ k n σ xs (pc + 3) lv (.ref (ad 75) :: st)) : Z Γ k n σ xs pc lv (.ref (ad 65) :: st) := z_get' (C := RX12) (T := TX12) (N0 := 12) (ref := RX12) (kd := 77) X K in_X12 65 (Nat.le_of_ble_eq_true rfl) rfl rfl 8 (Nat.le_of_ble_eq_true rfl) q488 (fun _ h => h) rfl d h
/- X12_ascii -/
def wd_X12_ascii_116 (mc ms : Nat) (post : Int → ZS → ZDy → Prop) (v1 : Int) (v2 : Int) (v3 : Nat) (v4 : Int) (k : Nat) (n : Nat) (d : ZDy) (σ : ZS) : Prop :=
  (k ≤ mc ∧ n ≤ ms) ∧
  (v3 ∈ d.2.2.1) ∧
  (v3 ∈ d.2.2.1) ∧
  ∀ d3 : ZDy, d3 = dySet d v3 2 ((d.2.2.2 v3 2) + v2) →
  (v3 ∈ d3.2.2.1) ∧
  (v3 ∈ d3.2.2.1) ∧
  ∀ d6 : ZDy, d6 = dySet d3 v3 3 ((d3.2.2.2 v3 3) + ((σ 48 3) - v4)) →
  post (v1 + v2) σ d6
def wd_X12_ascii (a0 : Int) (a1 : Int) (mc : Nat) (ms : Nat) (σ : ZS) (d : ZDy) (post : Int → ZS → ZDy → Prop) : Prop :=
  (dyOK d ∧ yRoom d.1) ∧
  ∃ mc1 ms2 : Nat, (dyRe d 0 = none → 2 ≤ mc1 ∧ 4 + yGrow d.1 ≤ ms2) ∧ (0 + mc1 ≤ mc ∧ 0 + ms2 ≤ ms) ∧ ∀ (a5 : Nat) (d4 : ZDy), lastR d 0 a0 a5 d4 →
  ∀ v4_8 : Int, v4_8 = σ 48 3 →
  (InR a1) ∧
  ((¬ a1 = 2 →
    (0 ≤ a0 ∧ a0 < 3200) ∧
    (InR (σ 66 a0)) ∧
    (((σ 66 a0) < 0 →
      wc_X4_put 235 σ (fun σ14 => 
      wc_X4_put (((σ14 66 a0) % 256) - 127) σ14 (fun σ15 => 
      wd_X12_ascii_116 mc ms post a0 a1 a5 v4_8 (0 + mc1) (0 + ms2) d4 σ15))
    ) ∧
    (0 ≤ (σ 66 a0) →
      wc_X4_put ((σ 66 a0) + 1) σ (fun σ16 => 
      wd_X12_ascii_116 mc ms post a0 a1 a5 v4_8 (0 + mc1) (0 + ms2) d4 σ16)
    ))
  ) ∧
  (a1 = 2 →
    (0 ≤ a0 ∧ a0 < 3200) ∧
    (0 ≤ (a0 + 1) ∧ (a0 + 1) < 3200) ∧
    wc_X4_put (((130 + (10 * ((σ 66 a0) - 48))) + (σ 66 (a0 + 1))) - 48) σ (fun σ19 => 
    wd_X12_ascii_116 mc ms post a0 a1 a5 v4_8 (0 + mc1) (0 + ms2) d4 σ19)
  ))
theorem clc_X12_121 {Γ : ZG} {cc : ByteArray} {fr lo nL mc0 ms0 k n pc : Nat} {xs : va_W} {lv : List (Nat × Value)} {st : List Value} {l : Launch} {D : va_G} {ds : Nat → ClassId} {ad : Nat → Nat} {a0 : Int} {σ : ZS} {post : ZS → Prop} (X : ZX Γ cc RX12 fr lo) (K : ZCap Γ l (ΘC D ds ad) nL mc0 ms0) (hrm : zroom 3 45 fr lo = true) (h : wc_X4_put a0 σ post) (hst : (st.map fun v => v.category).sum ≤ 8) (d : decode cc pc = .ok (.invokevirtual 121, 3)) (hcs : k ≤ mc0 ∧ n ≤ ms0) (kk : ∀ (σ' : ZS), post σ' → Z Γ k n σ' xs (pc + 3) lv (st)) : Z Γ k n σ xs pc lv (.int (iz a0) :: .ref (ad 48) :: st) := 
  z_callVV' (C := RX4) (q0 := 48) X K (mtc_X4_put l D ds ad a0 σ post h) (Nat.le_of_ble_eq_true rfl) rfl rfl rfl (lw_V q772 q773 q774 q111 q775) ⟨rfl, by decide, by decide, rfl⟩ (zroom_of (zroom_le hrm (by decide))) ⟨by rw [K.2.2.2.1]; exact hcs.1, by rw [K.2.2.2.2]; exact hcs.2⟩ hst d rfl kk
set_option maxRecDepth 100000 in
theorem wkd_X12_ascii_116 {Γ : ZG} {l : Launch} {D : va_G} {ds : Nat → ClassId} {ad : Nat → Nat} {δ : Nat × Nat} {mc ms : Nat} {post : Int → ZS → ZDy → Prop} (X : ZX Γ cX12_ascii RX12 8 223) (K : ZCap Γ l (ΘC D ds ad) 5 mc ms) (E : ZDe Γ (ds 5) δ) (hR : ZDretI Γ cX12_ascii .int mc ms (fun r σ xs => ∃ d : ZDy, xs = dyW (ds 5) δ (ad 75) (ad 76) d ∧ post r σ d)) (v1 : Int) (v2 : Int) (v3 : Nat) (v4 : Int) (k : Nat) (n : Nat) (d : ZDy) (σ : ZS) (h : wd_X12_ascii_116 mc ms post v1 v2 v3 v4 k n d σ) : Z Γ k n σ (dyW (ds 5) δ (ad 75) (ad 76) d) 116 [(0, .ref (ad 65)), (1, .int (iz v1)), (2, .int (iz v2)), (3, .ref v3), (4, .int (iz v4))] [] := by
  obtain ⟨hkn, h⟩ := h
  refine z_aload_n X 3 dX12_ascii_116 rfl ?_
  refine z_dup X dX12_ascii_117 rfl ?_
  obtain ⟨g1, h⟩ := h
  refine z_stGet (j := 2) X K rfl (by decide) q759 dX12_ascii_118 g1 ?_
  refine z_iload_n X 2 dX12_ascii_121 rfl ?_
  refine z_iadd X dX12_ascii_122 ?_
  obtain ⟨g2, h⟩ := h
  refine z_stPut (j := 2) X K rfl (by decide) rfl q759 dX12_ascii_123 g2 (fun d3 ed3 => ?_)
  have h := h d3 ed3
  refine z_aload_n X 3 dX12_ascii_126 rfl ?_
  refine z_dup X dX12_ascii_127 rfl ?_
  obtain ⟨g4, h⟩ := h
  refine z_stGet (j := 3) X K rfl (by decide) q761 dX12_ascii_128 g4 ?_
  refine z_aload_n X 0 dX12_ascii_131 rfl ?_
  refine gC_X12_39_X12 X K dX12_ascii_132 ?_
  refine gC_X12_118_X4 X K (Or.inr rfl) dX12_ascii_135 ?_
  refine z_iload X 4 dX12_ascii_138 rfl ?_
  refine z_isub X dX12_ascii_140 ?_
  refine z_iadd X dX12_ascii_141 ?_
  obtain ⟨g5, h⟩ := h
  refine z_stPut (j := 3) X K rfl (by decide) rfl q761 dX12_ascii_142 g5 (fun d6 ed6 => ?_)
  have h := h d6 ed6
  refine z_iload_n X 1 dX12_ascii_145 rfl ?_
  refine z_iload_n X 2 dX12_ascii_146 rfl ?_
  refine z_iadd X dX12_ascii_147 ?_
  exact hR _ _ _ _ _ _ _ dX12_ascii_148 rfl hkn.1 hkn.2 ⟨_, rfl, h⟩
set_option maxRecDepth 100000 in
theorem mtd_X12_ascii (l : Launch) (D : va_G) (ds : Nat → ClassId) (ad : Nat → Nat) (δ : Nat × Nat) (a0 : Int) (a1 : Int) (mc : Nat) (ms : Nat) (σ : ZS) (d : ZDy) (post : Int → ZS → ZDy → Prop) (h : wd_X12_ascii a0 a1 mc ms σ d post) : ZDI l (ΘC D ds ad) (ds 5) δ yX12_ascii cX12_ascii 5 .int 8 223 mc ms [.ref (ad 65), .int (iz a0), .int (iz a1)] σ (dyW (ds 5) δ (ad 75) (ad 76) d) (fun r σ xs => ∃ d : ZDy, xs = dyW (ds 5) δ (ad 75) (ad 76) d ∧ post r σ d) := by
  refine ZDI.of (by decide) (Nat.le_of_ble_eq_true rfl) (fun Γ X K E hR => ?_)
  have X : ZX Γ cX12_ascii RX12 8 223 := X
  refine z_sub [0, 1, 2] (lv' := [(0, .ref (ad 65)), (1, .int (iz a0)), (2, .int (iz a1))]) rfl ?_
  refine z_aload_n X 0 dX12_ascii_0 rfl ?_
  refine z_iconst X 0 dX12_ascii_1 ?_
  refine z_iload_n X 1 dX12_ascii_2 rfl ?_
  obtain ⟨g6, h⟩ := h
  obtain ⟨mc1, ms2, hb7, hk3, h⟩ := h
  refine zd_VR (C := RX12) (q0 := 65) X K E (mtd_X12_last σ d 0 a0 mc1 ms2 g6.1 g6.2 (by decide) hb7) (Nat.le_of_ble_eq_true rfl) rfl rfl rfl (lw_V q739 q741 qs14 q126 q742) ⟨rfl, by decide, by decide, rfl⟩ ⟨(Nat.le_of_ble_eq_true rfl), (Nat.le_of_ble_eq_true rfl)⟩ hk3 (Nat.le_of_ble_eq_true rfl) dX12_ascii_3 rfl (fun a5 σx xsx hh => ?_)
  obtain ⟨hsx, d4, rfl, hla5⟩ := hh
  rw [hsx]
  have h := h a5 d4 hla5
  refine z_astore_nK X K (lv' := [(3, .ref a5), (0, .ref (ad 65)), (1, .int (iz a0)), (2, .int (iz a1))]) dX12_ascii_6 rfl rfl ?_
  refine z_aload_n X 1 dX12_ascii_7 rfl ?_
  refine gC_X12_39_X12 X K dX12_ascii_8 ?_
  refine gC_X12_118_X4 X K (Or.inr rfl) dX12_ascii_11 ?_
  refine z_topi (fun v4_8 ev4_8 => ?_)
  have h := h v4_8 ev4_8
  refine z_istoreK X K (lv' := [(4, .int (iz v4_8)), (3, .ref a5), (0, .ref (ad 65)), (1, .int (iz a0)), (2, .int (iz a1))]) dX12_ascii_14 rfl rfl ?_
  refine z_iload_n X 4 dX12_ascii_16 rfl ?_
  refine z_iconst X 2 dX12_ascii_17 ?_
  obtain ⟨i9, h⟩ := h
  refine z_icmp_ne X 59 dX12_ascii_18 rfl i9 (by decide) (fun c10 => ?_) (fun c10 => ?_)
  · have h := h.1 c10
    refine z_aload_n X 2 dX12_ascii_59 rfl ?_
    refine gC_X12_9_X12 X K dX12_ascii_60 ?_
    refine z_iload_n X 3 dX12_ascii_63 rfl ?_
    obtain ⟨x11, h⟩ := h
    refine z_aldB' X K 66 (Nat.le_of_ble_eq_true rfl) rfl rfl (Nat.le_of_ble_eq_true rfl) dX12_ascii_64 x11 ?_
    obtain ⟨i12, h⟩ := h
    refine z_if_lt X 86 dX12_ascii_65 rfl i12 (fun c13 => ?_) (fun c13 => ?_)
    · have h := h.1 c13
      refine z_aload_n X 2 dX12_ascii_86 rfl ?_
      refine gC_X12_39_X12 X K dX12_ascii_87 ?_
      refine z_sipush X 235 dX12_ascii_90 rfl ?_
      refine clc_X12_121 X K rfl h (Nat.le_of_ble_eq_true rfl) dX12_ascii_93 ⟨hk3.1, hk3.2⟩ (fun σ14 h => ?_)
      refine z_aload_n X 2 dX12_ascii_96 rfl ?_
      refine gC_X12_39_X12 X K dX12_ascii_97 ?_
      refine z_aload_n X 2 dX12_ascii_100 rfl ?_
      refine gC_X12_9_X12 X K dX12_ascii_101 ?_
      refine z_iload_n X 3 dX12_ascii_104 rfl ?_
      refine z_aldB' X K 66 (Nat.le_of_ble_eq_true rfl) rfl rfl (Nat.le_of_ble_eq_true rfl) dX12_ascii_105 x11 ?_
      refine z_sipush X 255 dX12_ascii_106 rfl ?_
      refine z_iandm X 8 (M := 256) rfl rfl rfl dX12_ascii_109 ?_
      refine z_bipush X 127 dX12_ascii_110 rfl ?_
      refine z_isub X dX12_ascii_112 ?_
      refine clc_X12_121 X K rfl h (Nat.le_of_ble_eq_true rfl) dX12_ascii_113 ⟨hk3.1, hk3.2⟩ (fun σ15 h => ?_)
      exact z_sub [2, 3, 4, 1, 0] rfl (wkd_X12_ascii_116 X K E hR _ _ _ _ _ _ _ _ h)
    · have h := h.2 c13
      refine z_aload_n X 2 dX12_ascii_68 rfl ?_
      refine gC_X12_39_X12 X K dX12_ascii_69 ?_
      refine z_aload_n X 2 dX12_ascii_72 rfl ?_
      refine gC_X12_9_X12 X K dX12_ascii_73 ?_
      refine z_iload_n X 3 dX12_ascii_76 rfl ?_
      refine z_aldB' X K 66 (Nat.le_of_ble_eq_true rfl) rfl rfl (Nat.le_of_ble_eq_true rfl) dX12_ascii_77 x11 ?_
      refine z_iconst X 1 dX12_ascii_78 ?_
      refine z_iadd X dX12_ascii_79 ?_
      refine clc_X12_121 X K rfl h (Nat.le_of_ble_eq_true rfl) dX12_ascii_80 ⟨hk3.1, hk3.2⟩ (fun σ16 h => ?_)
      refine z_goto (tgt := 116) X dX12_ascii_83 rfl ?_
      exact z_sub [2, 3, 4, 1, 0] rfl (wkd_X12_ascii_116 X K E hR _ _ _ _ _ _ _ _ h)
  · have h := h.2 c10
    refine z_aload_n X 2 dX12_ascii_21 rfl ?_
    refine gC_X12_39_X12 X K dX12_ascii_22 ?_
    refine z_sipush X 130 dX12_ascii_25 rfl ?_
    refine z_bipush X 10 dX12_ascii_28 rfl ?_
    refine z_aload_n X 2 dX12_ascii_30 rfl ?_
    refine gC_X12_9_X12 X K dX12_ascii_31 ?_
    refine z_iload_n X 3 dX12_ascii_34 rfl ?_
    obtain ⟨x17, h⟩ := h
    refine z_aldB' X K 66 (Nat.le_of_ble_eq_true rfl) rfl rfl (Nat.le_of_ble_eq_true rfl) dX12_ascii_35 x17 ?_
    refine z_bipush X 48 dX12_ascii_36 rfl ?_
    refine z_isub X dX12_ascii_38 ?_
    refine z_imul X dX12_ascii_39 ?_
    refine z_iadd X dX12_ascii_40 ?_
    refine z_aload_n X 2 dX12_ascii_41 rfl ?_
    refine gC_X12_9_X12 X K dX12_ascii_42 ?_
    refine z_iload_n X 3 dX12_ascii_45 rfl ?_
    refine z_iconst X 1 dX12_ascii_46 ?_
    refine z_iadd X dX12_ascii_47 ?_
    obtain ⟨x18, h⟩ := h
    refine z_aldB' X K 66 (Nat.le_of_ble_eq_true rfl) rfl rfl (Nat.le_of_ble_eq_true rfl) dX12_ascii_48 x18 ?_
    refine z_iadd X dX12_ascii_49 ?_
    refine z_bipush X 48 dX12_ascii_50 rfl ?_
    refine z_isub X dX12_ascii_52 ?_
    refine clc_X12_121 X K rfl h (Nat.le_of_ble_eq_true rfl) dX12_ascii_53 ⟨hk3.1, hk3.2⟩ (fun σ19 h => ?_)
    refine z_goto (tgt := 116) X dX12_ascii_56 rfl ?_
    exact z_sub [2, 3, 4, 1, 0] rfl (wkd_X12_ascii_116 X K E hR _ _ _ _ _ _ _ _ h)
/- X12_run -/
def wv_En_write (o : Nat) (a2 : Int) (a3 : Int) (a4 : Int) (σ : ZS) (post : ZS → Prop) : Prop :=
  (isSe o → wc_X7_write o a2 a3 a4 σ post) ∧
  (o = 59 → wc_X7_write o a2 a3 a4 σ post) ∧
  (o = 62 → wc_X10_write a2 a3 a4 σ post) ∧
  (o = 64 → wc_X11_write a2 a3 a4 σ post)
def wd_X12_run (a0 : Int) (a1 : Int) (a2 : Int) (a3 : Int) (mc : Nat) (ms : Nat) (σ : ZS) (d : ZDy) (post : Int → ZS → ZDy → Prop) : Prop :=
  (InR (4 + a0)) ∧
  (dyOK d ∧ yRoom d.1) ∧
  ∃ mc1 ms2 : Nat, (dyRe d (4 + a0) = none → 2 ≤ mc1 ∧ 4 + yGrow d.1 ≤ ms2) ∧ (0 + mc1 ≤ mc ∧ 0 + ms2 ≤ ms) ∧ ∀ (a5 : Nat) (d4 : ZDy), lastR d (4 + a0) a1 a5 d4 →
  ∀ v6_9 : Int, v6_9 = σ 48 3 →
  (0 ≤ a0 ∧ a0 < 5) ∧
  (InR (σ 51 2)) ∧
  (a0 < σ 51 2) ∧
  wc_X4_put (latchOf σ (encC a0)) σ (fun σ13 => 
  (InR (σ13 51 2)) ∧
  (a0 < σ13 51 2) ∧
  wv_En_write (encC a0) a1 a2 a3 σ13 (fun σ16 => 
  (a5 ∈ d4.2.2.1) ∧
  ∀ d18 : ZDy, d18 = dySet d4 a5 2 a2 →
  (a5 ∈ d18.2.2.1) ∧
  ∀ d20 : ZDy, d20 = dySet d18 a5 3 ((σ16 48 3) - v6_9) →
  post (a1 + a2) σ16 d20))
theorem clc_X12_176_En {Γ : ZG} {cc : ByteArray} {fr lo nL mc0 ms0 k n pc : Nat} {xs : va_W} {lv : List (Nat × Value)} {st : List Value} {l : Launch} {D : va_G} {ds : Nat → ClassId} {ad : Nat → Nat} {a2 : Int} {a3 : Int} {a4 : Int} {σ : ZS} {post : ZS → Prop} (X : ZX Γ cc RX12 fr lo) (K : ZCap Γ l (ΘC D ds ad) nL mc0 ms0) {o : Nat} (ho : isEn o) (hrm : zroom 6 117 fr lo = true) (h : wv_En_write o a2 a3 a4 σ post) (hst : (st.map fun v => v.category).sum ≤ 8) (d : decode cc pc = .ok (.invokevirtual 176, 3)) (hcs : k ≤ mc0 ∧ n ≤ ms0) (kk : ∀ (σ' : ZS), post σ' → Z Γ k n σ' xs (pc + 3) lv (st)) : Z Γ k n σ xs pc lv (.int (iz a4) :: .int (iz a3) :: .int (iz a2) :: .ref (ad 66) :: .ref (ad 48) :: .ref (ad o) :: st) := by
  rcases ho with rfl | rfl | rfl | rfl | rfl
  · exact z_callUV' (C := RX8) (owner := "MatrixPress$Encodation") (q0 := 53) X K (mtc_X7_write l D ds ad 53 a2 a3 a4 σ post (h.1 (Or.inl rfl))) (Nat.le_of_ble_eq_true rfl) rfl rfl rfl (lw_U q780 q782 q801 q802 q117 q803) (va_Decl.abs (X.nw q781 rfl)) ⟨by decide, by decide, rfl⟩ (zroom_of (zroom_le hrm (by decide))) ⟨by rw [K.2.2.2.1]; exact hcs.1, by rw [K.2.2.2.2]; exact hcs.2⟩ hst d rfl kk
  · exact z_callUV' (C := RX8) (owner := "MatrixPress$Encodation") (q0 := 56) X K (mtc_X7_write l D ds ad 56 a2 a3 a4 σ post (h.1 (Or.inr rfl))) (Nat.le_of_ble_eq_true rfl) rfl rfl rfl (lw_U q780 q782 q801 q802 q117 q803) (va_Decl.abs (X.nw q781 rfl)) ⟨by decide, by decide, rfl⟩ (zroom_of (zroom_le hrm (by decide))) ⟨by rw [K.2.2.2.1]; exact hcs.1, by rw [K.2.2.2.2]; exact hcs.2⟩ hst d rfl kk
  · exact z_callUV' (C := RX9) (owner := "MatrixPress$Encodation") (q0 := 59) X K (mtc_X7_write l D ds ad 59 a2 a3 a4 σ post (h.2.1 rfl)) (Nat.le_of_ble_eq_true rfl) rfl rfl rfl (lw_U q780 q782 q828 q802 q117 q803) (va_Decl.abs (X.nw q781 rfl)) ⟨by decide, by decide, rfl⟩ (zroom_of (zroom_le hrm (by decide))) ⟨by rw [K.2.2.2.1]; exact hcs.1, by rw [K.2.2.2.2]; exact hcs.2⟩ hst d rfl kk
  · exact z_callUV' (C := RX10) (owner := "MatrixPress$Encodation") (q0 := 62) X K (mtc_X10_write l D ds ad a2 a3 a4 σ post (h.2.2.1 rfl)) (Nat.le_of_ble_eq_true rfl) rfl rfl rfl (lw_U q780 q782 q793 q794 q124 q795) (va_Decl.abs (X.nw q781 rfl)) ⟨by decide, by decide, rfl⟩ (zroom_of (zroom_le hrm (by decide))) ⟨by rw [K.2.2.2.1]; exact hcs.1, by rw [K.2.2.2.2]; exact hcs.2⟩ hst d rfl kk
  · exact z_callUV' (C := RX11) (owner := "MatrixPress$Encodation") (q0 := 64) X K (mtc_X11_write l D ds ad a2 a3 a4 σ post (h.2.2.2 rfl)) (Nat.le_of_ble_eq_true rfl) rfl rfl rfl (lw_U q780 q782 q783 q784 q125 q785) (va_Decl.abs (X.nw q781 rfl)) ⟨by decide, by decide, rfl⟩ (zroom_of (zroom_le hrm (by decide))) ⟨by rw [K.2.2.2.1]; exact hcs.1, by rw [K.2.2.2.2]; exact hcs.2⟩ hst d rfl kk
set_option maxRecDepth 100000 in
theorem mtd_X12_run (l : Launch) (D : va_G) (ds : Nat → ClassId) (ad : Nat → Nat) (δ : Nat × Nat) (a0 : Int) (a1 : Int) (a2 : Int) (a3 : Int) (mc : Nat) (ms : Nat) (σ : ZS) (d : ZDy) (post : Int → ZS → ZDy → Prop) (h : wd_X12_run a0 a1 a2 a3 mc ms σ d post) : ZDI l (ΘC D ds ad) (ds 5) δ yX12_run cX12_run 7 .int 8 223 mc ms [.ref (ad 65), .int (iz a0), .int (iz a1), .int (iz a2), .int (iz a3)] σ (dyW (ds 5) δ (ad 75) (ad 76) d) (fun r σ xs => ∃ d : ZDy, xs = dyW (ds 5) δ (ad 75) (ad 76) d ∧ post r σ d) := by
  refine ZDI.of (by decide) (Nat.le_of_ble_eq_true rfl) (fun Γ X K E hR => ?_)
  have X : ZX Γ cX12_run RX12 8 223 := X
  refine z_sub [0, 1, 2, 3, 4] (lv' := [(0, .ref (ad 65)), (1, .int (iz a0)), (2, .int (iz a1)), (3, .int (iz a2)), (4, .int (iz a3))]) rfl ?_
  refine z_aload_n X 0 dX12_run_0 rfl ?_
  refine z_iconst X 4 dX12_run_1 ?_
  refine z_iload_n X 1 dX12_run_2 rfl ?_
  refine z_iadd X dX12_run_3 ?_
  refine z_iload_n X 2 dX12_run_4 rfl ?_
  obtain ⟨i7, h⟩ := h
  obtain ⟨g6, h⟩ := h
  obtain ⟨mc1, ms2, hb8, hk3, h⟩ := h
  refine zd_VR (C := RX12) (q0 := 65) X K E (mtd_X12_last σ d (4 + a0) a1 mc1 ms2 g6.1 g6.2 i7 hb8) (Nat.le_of_ble_eq_true rfl) rfl rfl rfl (lw_V q739 q741 qs14 q126 q742) ⟨rfl, by decide, by decide, rfl⟩ ⟨(Nat.le_of_ble_eq_true rfl), (Nat.le_of_ble_eq_true rfl)⟩ hk3 (Nat.le_of_ble_eq_true rfl) dX12_run_5 rfl (fun a5 σx xsx hh => ?_)
  obtain ⟨hsx, d4, rfl, hla5⟩ := hh
  rw [hsx]
  have h := h a5 d4 hla5
  refine z_astoreK X K (lv' := [(5, .ref a5), (0, .ref (ad 65)), (1, .int (iz a0)), (2, .int (iz a1)), (3, .int (iz a2)), (4, .int (iz a3))]) dX12_run_8 rfl rfl ?_
  refine z_aload_n X 1 dX12_run_10 rfl ?_
  refine gC_X12_39_X12 X K dX12_run_11 ?_
  refine gC_X12_118_X4 X K (Or.inr rfl) dX12_run_14 ?_
  refine z_topi (fun v6_9 ev6_9 => ?_)
  have h := h v6_9 ev6_9
  refine z_istoreK X K (lv' := [(6, .int (iz v6_9)), (5, .ref a5), (0, .ref (ad 65)), (1, .int (iz a0)), (2, .int (iz a1)), (3, .int (iz a2)), (4, .int (iz a3))]) dX12_run_17 rfl rfl ?_
  refine z_aload_n X 2 dX12_run_19 rfl ?_
  refine gC_X12_39_X12 X K dX12_run_20 ?_
  refine z_aload_n X 2 dX12_run_23 rfl ?_
  refine gC_X12_36_X12 X K dX12_run_24 ?_
  refine z_iload_n X 3 dX12_run_27 rfl ?_
  obtain ⟨x10, h⟩ := h
  obtain ⟨i11, h⟩ := h
  obtain ⟨g12, h⟩ := h
  refine z_enGet q595 X K rfl x10 ⟨i11, g12⟩ (Nat.le_of_ble_eq_true rfl) dX12_run_28 ⟨hk3.1, hk3.2⟩ ?_
  refine z_enCast q609 X K (isEn_c a0) dX12_run_31 ?_
  refine gC_X12_173_En X K (isEn_c a0) dX12_run_34 ?_
  refine clc_X12_121 X K rfl h (Nat.le_of_ble_eq_true rfl) dX12_run_37 ⟨hk3.1, hk3.2⟩ (fun σ13 h => ?_)
  refine z_aload_n X 2 dX12_run_40 rfl ?_
  refine gC_X12_36_X12 X K dX12_run_41 ?_
  refine z_iload_n X 3 dX12_run_44 rfl ?_
  obtain ⟨i14, h⟩ := h
  obtain ⟨g15, h⟩ := h
  refine z_enGet q595 X K rfl x10 ⟨i14, g15⟩ (Nat.le_of_ble_eq_true rfl) dX12_run_45 ⟨hk3.1, hk3.2⟩ ?_
  refine z_enCast q609 X K (isEn_c a0) dX12_run_48 ?_
  refine z_aload_n X 2 dX12_run_51 rfl ?_
  refine gC_X12_39_X12 X K dX12_run_52 ?_
  refine z_aload_n X 2 dX12_run_55 rfl ?_
  refine gC_X12_9_X12 X K dX12_run_56 ?_
  refine z_iload_n X 4 dX12_run_59 rfl ?_
  refine z_iload_n X 5 dX12_run_60 rfl ?_
  refine z_iload X 6 dX12_run_61 rfl ?_
  refine clc_X12_176_En X K (isEn_c a0) rfl h (Nat.le_of_ble_eq_true rfl) dX12_run_63 ⟨hk3.1, hk3.2⟩ (fun σ16 h => ?_)
  refine z_aload X 1 dX12_run_66 rfl ?_
  refine z_iload_n X 5 dX12_run_68 rfl ?_
  obtain ⟨g17, h⟩ := h
  refine z_stPut (j := 2) X K rfl (by decide) rfl q759 dX12_run_69 g17 (fun d18 ed18 => ?_)
  have h := h d18 ed18
  refine z_aload X 1 dX12_run_72 rfl ?_
  refine z_aload_n X 2 dX12_run_74 rfl ?_
  refine gC_X12_39_X12 X K dX12_run_75 ?_
  refine gC_X12_118_X4 X K (Or.inr rfl) dX12_run_78 ?_
  refine z_iload X 0 dX12_run_81 rfl ?_
  refine z_isub X dX12_run_83 ?_
  obtain ⟨g19, h⟩ := h
  refine z_stPut (j := 3) X K rfl (by decide) rfl q761 dX12_run_84 g19 (fun d20 ed20 => ?_)
  have h := h d20 ed20
  refine z_iload_n X 4 dX12_run_87 rfl ?_
  refine z_iload_n X 5 dX12_run_88 rfl ?_
  refine z_iadd X dX12_run_89 ?_
  exact hR _ _ _ _ _ _ _ dX12_run_90 rfl hk3.1 hk3.2 ⟨_, rfl, h⟩
/- X12_tail -/
def wd_X12_tail_54 (mc ms : Nat) (C2 : Int × Nat × Nat × ZDy × ZS → Prop) (post : Int → ZS → ZDy → Prop) (t0 : Int) (t1 : Int) (k : Nat) (n : Nat) (d : ZDy) (σ : ZS) : Prop :=
  (k ≤ mc ∧ n ≤ ms) ∧
  ∃ mc1 ms2 : Nat, (k + mc1 ≤ mc ∧ n + ms2 ≤ ms) ∧ wd_X12_ascii t1 t0 mc1 ms2 σ d (fun r6 σ5 d4 =>
  C2 (r6, k + mc1, n + ms2, d4, σ5))
def wd_X12_tail_53 (mc ms : Nat) (C2 : Int × Nat × Nat × ZDy × ZS → Prop) (post : Int → ZS → ZDy → Prop) (t0 : Int) (k : Nat) (n : Nat) (d : ZDy) (σ : ZS) : Prop :=
  (k ≤ mc ∧ n ≤ ms) ∧
  wd_X12_tail_54 mc ms C2 post 1 t0 k n d σ
def wbd_X12_tail_2 (mc ms : Nat) (post : Int → ZS → ZDy → Prop) (C2 : Int × Nat × Nat × ZDy × ZS → Prop) : Int × Nat × Nat × ZDy × ZS → Prop := fun (v2, k, n, d, σ) =>
  (k ≤ mc ∧ n ≤ ms) ∧
  (InR v2) ∧
  (InR (σ 65 3)) ∧
  (((σ 65 3) ≤ v2 →
    post v2 σ d
  ) ∧
  (v2 < (σ 65 3) →
    wc_X12_isDigit v2 σ (fun r5 σ4 => r5 = 0 ∨ r5 = 1 →
    ((r5 = 0 →
      wd_X12_tail_53 mc ms C2 post v2 k n d σ4
    ) ∧
    (¬ r5 = 0 →
      wc_X12_isDigit (v2 + 1) σ4 (fun r8 σ7 => r8 = 0 ∨ r8 = 1 →
      ((r8 = 0 →
        wd_X12_tail_53 mc ms C2 post v2 k n d σ7
      ) ∧
      (¬ r8 = 0 →
        (0 ≤ (v2 + 2) ∧ (v2 + 2) < 3201) ∧
        (0 ≤ v2 ∧ v2 < 3201) ∧
        (InR (1 + (σ7 69 (v2 + 2)))) ∧
        (InR (σ7 69 v2)) ∧
        ((¬ (1 + (σ7 69 (v2 + 2))) = (σ7 69 v2) →
          wd_X12_tail_53 mc ms C2 post v2 k n d σ7
        ) ∧
        ((1 + (σ7 69 (v2 + 2))) = (σ7 69 v2) →
          wd_X12_tail_54 mc ms C2 post 2 v2 k n d σ7
        ))
      )))
    )))
  ))
def wd_X12_tail (a0 : Int) (mc : Nat) (ms : Nat) (σ : ZS) (d : ZDy) (post : Int → ZS → ZDy → Prop) : Prop :=
  ∃ N : Nat, zfix (wbd_X12_tail_2 mc ms post) N (a0, 0, 0, d, σ)
set_option maxRecDepth 100000 in
theorem wkd_X12_tail_54 {Γ : ZG} {l : Launch} {D : va_G} {ds : Nat → ClassId} {ad : Nat → Nat} {δ : Nat × Nat} {mc ms : Nat} {post : Int → ZS → ZDy → Prop} (X : ZX Γ cX12_tail RX12 9 247) (K : ZCap Γ l (ΘC D ds ad) 3 mc ms) (E : ZDe Γ (ds 5) δ) (hR : ZDretI Γ cX12_tail .int mc ms (fun r σ xs => ∃ d : ZDy, xs = dyW (ds 5) δ (ad 75) (ad 76) d ∧ post r σ d)) {C2 : Int × Nat × Nat × ZDy × ZS → Prop} (hC2 : ∀ (v2 : Int) (k : Nat) (n : Nat) (d : ZDy) (σ : ZS), C2 (v2, k, n, d, σ) → Z Γ k n σ (dyW (ds 5) δ (ad 75) (ad 76) d) 2 [(0, .ref (ad 65)), (2, .int (iz v2))] []) (t0 : Int) (t1 : Int) (k : Nat) (n : Nat) (d : ZDy) (σ : ZS) (h : wd_X12_tail_54 mc ms C2 post t0 t1 k n d σ) : Z Γ k n σ (dyW (ds 5) δ (ad 75) (ad 76) d) 54 [(0, .ref (ad 65))] [.int (iz t0), .int (iz t1), .ref (ad 65)] := by
  obtain ⟨hkn, h⟩ := h
  obtain ⟨mc1, ms2, hk3, h⟩ := h
  refine zd_VI (C := RX12) (q0 := 65) X K E (mtd_X12_ascii l D ds ad δ t1 t0 mc1 ms2 σ d _ h) (Nat.le_of_ble_eq_true rfl) rfl rfl rfl (lw_V q735 q737 qs13 q126 q738) ⟨rfl, by decide, by decide, rfl⟩ ⟨(Nat.le_of_ble_eq_true rfl), (Nat.le_of_ble_eq_true rfl)⟩ hk3 (Nat.le_of_ble_eq_true rfl) dX12_tail_54 rfl (fun r6 σ5 xsx hh => ?_)
  obtain ⟨d4, rfl, h⟩ := hh
  refine z_istore_nK X K (lv' := [(2, .int (iz r6)), (0, .ref (ad 65))]) dX12_tail_57 rfl rfl ?_
  refine z_goto (tgt := 2) X dX12_tail_58 rfl ?_
  exact z_sub [1, 0] rfl (hC2 _ _ _ _ _ h)
set_option maxRecDepth 100000 in
theorem wkd_X12_tail_53 {Γ : ZG} {l : Launch} {D : va_G} {ds : Nat → ClassId} {ad : Nat → Nat} {δ : Nat × Nat} {mc ms : Nat} {post : Int → ZS → ZDy → Prop} (X : ZX Γ cX12_tail RX12 9 247) (K : ZCap Γ l (ΘC D ds ad) 3 mc ms) (E : ZDe Γ (ds 5) δ) (hR : ZDretI Γ cX12_tail .int mc ms (fun r σ xs => ∃ d : ZDy, xs = dyW (ds 5) δ (ad 75) (ad 76) d ∧ post r σ d)) {C2 : Int × Nat × Nat × ZDy × ZS → Prop} (hC2 : ∀ (v2 : Int) (k : Nat) (n : Nat) (d : ZDy) (σ : ZS), C2 (v2, k, n, d, σ) → Z Γ k n σ (dyW (ds 5) δ (ad 75) (ad 76) d) 2 [(0, .ref (ad 65)), (2, .int (iz v2))] []) (t0 : Int) (k : Nat) (n : Nat) (d : ZDy) (σ : ZS) (h : wd_X12_tail_53 mc ms C2 post t0 k n d σ) : Z Γ k n σ (dyW (ds 5) δ (ad 75) (ad 76) d) 53 [(0, .ref (ad 65))] [.int (iz t0), .ref (ad 65)] := by
  obtain ⟨hkn, h⟩ := h
  refine z_iconst X 1 dX12_tail_53 ?_
  exact z_sub [0] rfl (wkd_X12_tail_54 X K E hR hC2 _ _ _ _ _ _ h)
set_option maxRecDepth 100000 in
theorem wkd_X12_tail_2 {Γ : ZG} {l : Launch} {D : va_G} {ds : Nat → ClassId} {ad : Nat → Nat} {δ : Nat × Nat} {mc ms : Nat} {post : Int → ZS → ZDy → Prop} (X : ZX Γ cX12_tail RX12 9 247) (K : ZCap Γ l (ΘC D ds ad) 3 mc ms) (E : ZDe Γ (ds 5) δ) (hR : ZDretI Γ cX12_tail .int mc ms (fun r σ xs => ∃ d : ZDy, xs = dyW (ds 5) δ (ad 75) (ad 76) d ∧ post r σ d)) : ∀ (N : Nat) (v2 : Int) (k : Nat) (n : Nat) (d : ZDy) (σ : ZS), zfix (wbd_X12_tail_2 mc ms post) N (v2, k, n, d, σ) → Z Γ k n σ (dyW (ds 5) δ (ad 75) (ad 76) d) 2 [(0, .ref (ad 65)), (2, .int (iz v2))] [] := by
  intro N
  induction N with
  | zero => intro v2 k n d σ h; exact False.elim h
  | succ N ih =>
    intro v2 k n d σ h
    have h : wbd_X12_tail_2 mc ms post (zfix (wbd_X12_tail_2 mc ms post) N) (v2, k, n, d, σ) := h
    have hC2 := ih
    clear ih
    generalize zfix (wbd_X12_tail_2 mc ms post) N = C2 at h hC2
    dsimp only [wbd_X12_tail_2] at h
    obtain ⟨hkn, h⟩ := h
    refine z_iload_n X 1 dX12_tail_2 rfl ?_
    refine z_aload_n X 0 dX12_tail_3 rfl ?_
    refine gC_X12_43_X12 X K dX12_tail_4 ?_
    obtain ⟨i1, h⟩ := h
    obtain ⟨i2, h⟩ := h
    refine z_icmp_ge X 61 dX12_tail_7 rfl i1 i2 (fun c3 => ?_) (fun c3 => ?_)
    · have h := h.1 c3
      refine z_iload_n X 1 dX12_tail_61 rfl ?_
      exact hR _ _ _ _ _ _ _ dX12_tail_62 rfl hkn.1 hkn.2 ⟨_, rfl, h⟩
    · have h := h.2 c3
      refine z_aload_n X 0 dX12_tail_10 rfl ?_
      refine z_iload_n X 1 dX12_tail_11 rfl ?_
      refine z_aload_n X 0 dX12_tail_12 rfl ?_
      refine z_iload_n X 1 dX12_tail_13 rfl ?_
      refine clc_X12_61 X K rfl h (Nat.le_of_ble_eq_true rfl) dX12_tail_14 ⟨hkn.1, hkn.2⟩ (fun r5 σ4 h => ?_)
      obtain ⟨b5, h⟩ := h
      have h := h b5
      refine z_if_eq X 53 dX12_tail_17 rfl (InR_b b5) (fun c6 => ?_) (fun c6 => ?_)
      · have h := h.1 c6
        exact z_sub [0] rfl (wkd_X12_tail_53 X K E hR hC2 _ _ _ _ _ h)
      · have h := h.2 c6
        refine z_aload_n X 0 dX12_tail_20 rfl ?_
        refine z_iload_n X 1 dX12_tail_21 rfl ?_
        refine z_iconst X 1 dX12_tail_22 ?_
        refine z_iadd X dX12_tail_23 ?_
        refine clc_X12_61 X K rfl h (Nat.le_of_ble_eq_true rfl) dX12_tail_24 ⟨hkn.1, hkn.2⟩ (fun r8 σ7 h => ?_)
        obtain ⟨b8, h⟩ := h
        have h := h b8
        refine z_if_eq X 53 dX12_tail_27 rfl (InR_b b8) (fun c9 => ?_) (fun c9 => ?_)
        · have h := h.1 c9
          exact z_sub [0] rfl (wkd_X12_tail_53 X K E hR hC2 _ _ _ _ _ h)
        · have h := h.2 c9
          refine z_iconst X 1 dX12_tail_30 ?_
          refine z_aload_n X 0 dX12_tail_31 rfl ?_
          refine gC_X12_22_X12 X K dX12_tail_32 ?_
          refine z_iload_n X 1 dX12_tail_35 rfl ?_
          refine z_iconst X 2 dX12_tail_36 ?_
          refine z_iadd X dX12_tail_37 ?_
          obtain ⟨x10, h⟩ := h
          refine z_ald' X K 69 (Nat.le_of_ble_eq_true rfl) rfl rfl (Nat.le_of_ble_eq_true rfl) dX12_tail_38 x10 ?_
          refine z_iadd X dX12_tail_39 ?_
          refine z_aload_n X 0 dX12_tail_40 rfl ?_
          refine gC_X12_22_X12 X K dX12_tail_41 ?_
          refine z_iload_n X 1 dX12_tail_44 rfl ?_
          obtain ⟨x11, h⟩ := h
          refine z_ald' X K 69 (Nat.le_of_ble_eq_true rfl) rfl rfl (Nat.le_of_ble_eq_true rfl) dX12_tail_45 x11 ?_
          obtain ⟨i12, h⟩ := h
          obtain ⟨i13, h⟩ := h
          refine z_icmp_ne X 53 dX12_tail_46 rfl i12 i13 (fun c14 => ?_) (fun c14 => ?_)
          · have h := h.1 c14
            exact z_sub [0] rfl (wkd_X12_tail_53 X K E hR hC2 _ _ _ _ _ h)
          · have h := h.2 c14
            refine z_iconst X 2 dX12_tail_49 ?_
            refine z_goto (tgt := 54) X dX12_tail_50 rfl ?_
            exact z_sub [0] rfl (wkd_X12_tail_54 X K E hR hC2 _ _ _ _ _ _ h)
set_option maxRecDepth 100000 in
theorem mtd_X12_tail (l : Launch) (D : va_G) (ds : Nat → ClassId) (ad : Nat → Nat) (δ : Nat × Nat) (a0 : Int) (mc : Nat) (ms : Nat) (σ : ZS) (d : ZDy) (post : Int → ZS → ZDy → Prop) (h : wd_X12_tail a0 mc ms σ d post) : ZDI l (ΘC D ds ad) (ds 5) δ yX12_tail cX12_tail 3 .int 9 247 mc ms [.ref (ad 65), .int (iz a0)] σ (dyW (ds 5) δ (ad 75) (ad 76) d) (fun r σ xs => ∃ d : ZDy, xs = dyW (ds 5) δ (ad 75) (ad 76) d ∧ post r σ d) := by
  refine ZDI.of (by decide) (Nat.le_of_ble_eq_true rfl) (fun Γ X K E hR => ?_)
  have X : ZX Γ cX12_tail RX12 9 247 := X
  refine z_sub [0, 1] (lv' := [(0, .ref (ad 65)), (1, .int (iz a0))]) rfl ?_
  refine z_iload_n X 1 dX12_tail_0 rfl ?_
  refine z_istore_nK X K (lv' := [(2, .int (iz a0)), (0, .ref (ad 65)), (1, .int (iz a0))]) dX12_tail_1 rfl rfl ?_
  obtain ⟨N, h⟩ := h
  exact z_sub [1, 0] rfl (wkd_X12_tail_2 X K E hR N _ _ _ _ _ h)
/- X12_step -/
def wbd_X12_step_84 (mc ms : Nat) (C58 : Int × Int × Nat × Nat × ZDy × ZS → Prop) (post : Int → ZS → ZDy → Prop) (C84 : Int × Int × Nat × Int × Nat × Nat × ZDy × ZS → Prop) : Int × Int × Nat × Int × Nat × Nat × ZDy × ZS → Prop := fun (v1, v2, q3, v4, k, n, d, σ) =>
  (k ≤ mc ∧ n ≤ ms) ∧
  (isEn q3) ∧
  (InR v4) ∧
  (InR ((σ 65 3) - v1)) ∧
  ((((σ 65 3) - v1) < v4 →
    C58 (v1, v2 + 1, k, n, d, σ)
  ) ∧
  (v4 ≤ ((σ 65 3) - v1) →
    wv_En_closed q3 v1 v4 σ (fun r5 σ4 => 
    wc_X12_may v1 v4 r5 σ4 (fun r7 σ6 => r7 = 0 ∨ r7 = 1 →
    ((r7 = 0 →
      (InR (σ6 65 11)) ∧
      ((¬ (σ6 65 11) = 0 →
        C84 (v1, v2, q3, v4 + 1, k, n, d, σ6)
      ) ∧
      ((σ6 65 11) = 0 →
        wc_X12_open q3 v1 v4 σ6 (fun r12 σ11 => 
        (InR r12) ∧
        (InR (σ11 65 9)) ∧
        ((¬ r12 = (σ11 65 9) →
          C84 (v1, v2, q3, v4 + 1, k, n, d, σ11)
        ) ∧
        (r12 = (σ11 65 9) →
          ∃ mc16 ms17 : Nat, (k + mc16 ≤ mc ∧ n + ms17 ≤ ms) ∧ wd_X12_run v2 v1 v4 0 mc16 ms17 σ11 d (fun r21 σ20 d19 =>
          ∃ mc22 ms23 : Nat, ((k + mc16) + mc22 ≤ mc ∧ (n + ms17) + ms23 ≤ ms) ∧ wd_X12_tail r21 mc22 ms23 σ20 d19 (fun r27 σ26 d25 =>
          post r27 σ26 d25))
        )))
      ))
    ) ∧
    (¬ r7 = 0 →
      ∃ mc28 ms29 : Nat, (k + mc28 ≤ mc ∧ n + ms29 ≤ ms) ∧ wd_X12_run v2 v1 v4 1 mc28 ms29 σ6 d (fun r33 σ32 d31 =>
      post r33 σ32 d31)
    ))))
  ))
def wbd_X12_step_58 (mc ms : Nat) (post : Int → ZS → ZDy → Prop) (C58 : Int × Int × Nat × Nat × ZDy × ZS → Prop) : Int × Int × Nat × Nat × ZDy × ZS → Prop := fun (v1, v2, k, n, d, σ) =>
  (k ≤ mc ∧ n ≤ ms) ∧
  (InR v2) ∧
  (InR (σ 51 2)) ∧
  (((σ 51 2) ≤ v2 →
    False
  ) ∧
  (v2 < (σ 51 2) →
    (0 ≤ v2 ∧ v2 < 5) ∧
    (v2 < σ 51 2) ∧
    ∃ N : Nat, zfix (wbd_X12_step_84 mc ms C58 post) N (v1, v2, (encC v2), 1, k, n, d, σ)
  ))
def wd_X12_step_35 (mc ms : Nat) (post : Int → ZS → ZDy → Prop) (v1 : Int) (k : Nat) (n : Nat) (d : ZDy) (σ : ZS) : Prop :=
  (k ≤ mc ∧ n ≤ ms) ∧
  wc_X12_one v1 σ (fun r2 σ1 => 
  wc_X12_may v1 1 r2 σ1 (fun r4 σ3 => r4 = 0 ∨ r4 = 1 →
  ((r4 = 0 →
    ∃ N : Nat, zfix (wbd_X12_step_58 mc ms post) N (v1, 0, k, n, d, σ3)
  ) ∧
  (¬ r4 = 0 →
    ∃ mc6 ms7 : Nat, (k + mc6 ≤ mc ∧ n + ms7 ≤ ms) ∧ wd_X12_ascii v1 1 mc6 ms7 σ3 d (fun r11 σ10 d9 =>
    post r11 σ10 d9)
  ))))
def wd_X12_step (a0 : Int) (mc : Nat) (ms : Nat) (σ : ZS) (d : ZDy) (post : Int → ZS → ZDy → Prop) : Prop :=
  wc_X12_isDigit a0 σ (fun r2 σ1 => r2 = 0 ∨ r2 = 1 →
  ((r2 = 0 →
    wd_X12_step_35 mc ms post a0 0 0 d σ1
  ) ∧
  (¬ r2 = 0 →
    wc_X12_isDigit (a0 + 1) σ1 (fun r5 σ4 => r5 = 0 ∨ r5 = 1 →
    ((r5 = 0 →
      wd_X12_step_35 mc ms post a0 0 0 d σ4
    ) ∧
    (¬ r5 = 0 →
      wc_X12_may a0 2 1 σ4 (fun r8 σ7 => r8 = 0 ∨ r8 = 1 →
      ((r8 = 0 →
        wd_X12_step_35 mc ms post a0 0 0 d σ7
      ) ∧
      (¬ r8 = 0 →
        ∃ mc10 ms11 : Nat, (0 + mc10 ≤ mc ∧ 0 + ms11 ≤ ms) ∧ wd_X12_ascii a0 2 mc10 ms11 σ7 d (fun r15 σ14 d13 =>
        post r15 σ14 d13)
      )))
    )))
  )))
theorem clc_X12_131 {Γ : ZG} {cc : ByteArray} {fr lo nL mc0 ms0 k n pc : Nat} {xs : va_W} {lv : List (Nat × Value)} {st : List Value} {l : Launch} {D : va_G} {ds : Nat → ClassId} {ad : Nat → Nat} {a0 : Int} {a1 : Int} {a2 : Int} {σ : ZS} {post : Int → ZS → Prop} (X : ZX Γ cc RX12 fr lo) (K : ZCap Γ l (ΘC D ds ad) nL mc0 ms0) (hrm : zroom 4 70 fr lo = true) (h : wc_X12_may a0 a1 a2 σ post) (hst : (st.map fun v => v.category).sum ≤ 8) (d : decode cc pc = .ok (.invokevirtual 131, 3)) (hcs : k ≤ mc0 ∧ n ≤ ms0) (kk : ∀ (r : Int) (σ' : ZS), (fun r σ => (r = 0 ∨ r = 1) ∧ post r σ) r σ' → Z Γ k n σ' xs (pc + 3) lv (.int (iz r) :: st)) : Z Γ k n σ xs pc lv (.int (iz a2) :: .int (iz a1) :: .int (iz a0) :: .ref (ad 65) :: st) := 
  z_callVI' (C := RX12) (q0 := 65) X K (mtc_X12_may l D ds ad a0 a1 a2 σ post h) (Nat.le_of_ble_eq_true rfl) rfl rfl rfl (lw_V q731 q733 qs12 q126 q734) ⟨rfl, by decide, by decide, rfl⟩ (zroom_of (zroom_le hrm (by decide))) ⟨by rw [K.2.2.2.1]; exact hcs.1, by rw [K.2.2.2.2]; exact hcs.2⟩ hst d rfl kk
set_option maxRecDepth 100000 in
theorem wkd_X12_step_84 {Γ : ZG} {l : Launch} {D : va_G} {ds : Nat → ClassId} {ad : Nat → Nat} {δ : Nat × Nat} {mc ms : Nat} {post : Int → ZS → ZDy → Prop} (X : ZX Γ cX12_step RX12 10 269) (K : ZCap Γ l (ΘC D ds ad) 5 mc ms) (E : ZDe Γ (ds 5) δ) (hR : ZDretI Γ cX12_step .int mc ms (fun r σ xs => ∃ d : ZDy, xs = dyW (ds 5) δ (ad 75) (ad 76) d ∧ post r σ d)) {C58 : Int × Int × Nat × Nat × ZDy × ZS → Prop} (hC58 : ∀ (v1 : Int) (v2 : Int) (k : Nat) (n : Nat) (d : ZDy) (σ : ZS), C58 (v1, v2, k, n, d, σ) → Z Γ k n σ (dyW (ds 5) δ (ad 75) (ad 76) d) 58 [(0, .ref (ad 65)), (1, .int (iz v1)), (2, .int (iz v2))] []) : ∀ (N : Nat) (v1 : Int) (v2 : Int) (q3 : Nat) (v4 : Int) (k : Nat) (n : Nat) (d : ZDy) (σ : ZS), zfix (wbd_X12_step_84 mc ms C58 post) N (v1, v2, q3, v4, k, n, d, σ) → Z Γ k n σ (dyW (ds 5) δ (ad 75) (ad 76) d) 84 [(0, .ref (ad 65)), (1, .int (iz v1)), (2, .int (iz v2)), (3, .ref (ad q3)), (4, .int (iz v4))] [] := by
  intro N
  induction N with
  | zero => intro v1 v2 q3 v4 k n d σ h; exact False.elim h
  | succ N ih =>
    intro v1 v2 q3 v4 k n d σ h
    have h : wbd_X12_step_84 mc ms C58 post (zfix (wbd_X12_step_84 mc ms C58 post) N) (v1, v2, q3, v4, k, n, d, σ) := h
    have hC84 := ih
    clear ih
    generalize zfix (wbd_X12_step_84 mc ms C58 post) N = C84 at h hC84
    dsimp only [wbd_X12_step_84] at h
    obtain ⟨hkn, h⟩ := h
    obtain ⟨hq3, h⟩ := h
    refine z_iload X 4 dX12_step_84 rfl ?_
    refine z_aload_n X 0 dX12_step_86 rfl ?_
    refine gC_X12_43_X12 X K dX12_step_87 ?_
    refine z_iload_n X 1 dX12_step_90 rfl ?_
    refine z_isub X dX12_step_91 ?_
    obtain ⟨i1, h⟩ := h
    obtain ⟨i2, h⟩ := h
    refine z_icmp_gt X 164 dX12_step_92 rfl i1 i2 (fun c3 => ?_) (fun c3 => ?_)
    · have h := h.1 c3
      refine z_iincK X K 2 (lv' := [(2, .int (iz (v2 + 1))), (0, .ref (ad 65)), (1, .int (iz v1)), (3, .ref (ad q3)), (4, .int (iz v4))]) dX12_step_164 rfl rfl rfl ?_
      refine z_goto (tgt := 58) X dX12_step_167 rfl ?_
      exact z_sub [1, 2, 0] rfl (hC58 _ _ _ _ _ _ h)
    · have h := h.2 c3
      refine z_aload_n X 0 dX12_step_95 rfl ?_
      refine z_iload_n X 1 dX12_step_96 rfl ?_
      refine z_iload X 4 dX12_step_97 rfl ?_
      refine z_aload_n X 3 dX12_step_99 rfl ?_
      refine z_iload_n X 1 dX12_step_100 rfl ?_
      refine z_iload X 4 dX12_step_101 rfl ?_
      refine clc_X12_76_En X K hq3 rfl h (Nat.le_of_ble_eq_true rfl) dX12_step_103 ⟨hkn.1, hkn.2⟩ (fun r5 σ4 h => ?_)
      refine clc_X12_131 X K rfl h (Nat.le_of_ble_eq_true rfl) dX12_step_106 ⟨hkn.1, hkn.2⟩ (fun r7 σ6 h => ?_)
      obtain ⟨b7, h⟩ := h
      have h := h b7
      refine z_if_eq X 122 dX12_step_109 rfl (InR_b b7) (fun c8 => ?_) (fun c8 => ?_)
      · have h := h.1 c8
        refine z_aload_n X 0 dX12_step_122 rfl ?_
        refine gC_X12_97_X12 X K dX12_step_123 ?_
        obtain ⟨i9, h⟩ := h
        refine z_if_ne X 158 dX12_step_126 rfl i9 (fun c10 => ?_) (fun c10 => ?_)
        · have h := h.1 c10
          refine z_iincK X K 4 (lv' := [(4, .int (iz (v4 + 1))), (0, .ref (ad 65)), (1, .int (iz v1)), (2, .int (iz v2)), (3, .ref (ad q3))]) dX12_step_158 rfl rfl rfl ?_
          refine z_goto (tgt := 84) X dX12_step_161 rfl ?_
          exact z_sub [1, 2, 3, 4, 0] rfl (hC84 _ _ _ _ _ _ _ _ h)
        · have h := h.2 c10
          refine z_aload_n X 0 dX12_step_129 rfl ?_
          refine z_aload_n X 3 dX12_step_130 rfl ?_
          refine z_iload_n X 1 dX12_step_131 rfl ?_
          refine z_iload X 4 dX12_step_132 rfl ?_
          refine clc_X12_91 X K rfl h (Nat.le_of_ble_eq_true rfl) dX12_step_134 ⟨hkn.1, hkn.2⟩ (fun r12 σ11 h => ?_)
          refine z_aload_n X 0 dX12_step_137 rfl ?_
          refine gC_X12_101_X12 X K dX12_step_138 ?_
          obtain ⟨i13, h⟩ := h
          obtain ⟨i14, h⟩ := h
          refine z_icmp_ne X 158 dX12_step_141 rfl i13 i14 (fun c15 => ?_) (fun c15 => ?_)
          · have h := h.1 c15
            refine z_iincK X K 4 (lv' := [(4, .int (iz (v4 + 1))), (0, .ref (ad 65)), (1, .int (iz v1)), (2, .int (iz v2)), (3, .ref (ad q3))]) dX12_step_158 rfl rfl rfl ?_
            refine z_goto (tgt := 84) X dX12_step_161 rfl ?_
            exact z_sub [1, 2, 3, 4, 0] rfl (hC84 _ _ _ _ _ _ _ _ h)
          · have h := h.2 c15
            refine z_aload_n X 0 dX12_step_144 rfl ?_
            refine z_aload_n X 0 dX12_step_145 rfl ?_
            refine z_iload_n X 2 dX12_step_146 rfl ?_
            refine z_iload_n X 1 dX12_step_147 rfl ?_
            refine z_iload X 4 dX12_step_148 rfl ?_
            refine z_iconst X 0 dX12_step_150 ?_
            obtain ⟨mc16, ms17, hk18, h⟩ := h
            refine zd_VI (C := RX12) (q0 := 65) X K E (mtd_X12_run l D ds ad δ v2 v1 v4 0 mc16 ms17 σ11 d _ h) (Nat.le_of_ble_eq_true rfl) rfl rfl rfl (lw_V q776 q778 qs15 q126 q779) ⟨rfl, by decide, by decide, rfl⟩ ⟨(Nat.le_of_ble_eq_true rfl), (Nat.le_of_ble_eq_true rfl)⟩ hk18 (Nat.le_of_ble_eq_true rfl) dX12_step_151 rfl (fun r21 σ20 xsx hh => ?_)
            obtain ⟨d19, rfl, h⟩ := hh
            obtain ⟨mc22, ms23, hk24, h⟩ := h
            refine zd_VI (C := RX12) (q0 := 65) X K E (mtd_X12_tail l D ds ad δ r21 mc22 ms23 σ20 d19 _ h) (Nat.le_of_ble_eq_true rfl) rfl rfl rfl (lw_V q829 q831 qs18 q126 q832) ⟨rfl, by decide, by decide, rfl⟩ ⟨(Nat.le_of_ble_eq_true rfl), (Nat.le_of_ble_eq_true rfl)⟩ hk24 (Nat.le_of_ble_eq_true rfl) dX12_step_154 rfl (fun r27 σ26 xsx hh => ?_)
            obtain ⟨d25, rfl, h⟩ := hh
            exact hR _ _ _ _ _ _ _ dX12_step_157 rfl hk24.1 hk24.2 ⟨_, rfl, h⟩
      · have h := h.2 c8
        refine z_aload_n X 0 dX12_step_112 rfl ?_
        refine z_iload_n X 2 dX12_step_113 rfl ?_
        refine z_iload_n X 1 dX12_step_114 rfl ?_
        refine z_iload X 4 dX12_step_115 rfl ?_
        refine z_iconst X 1 dX12_step_117 ?_
        obtain ⟨mc28, ms29, hk30, h⟩ := h
        refine zd_VI (C := RX12) (q0 := 65) X K E (mtd_X12_run l D ds ad δ v2 v1 v4 1 mc28 ms29 σ6 d _ h) (Nat.le_of_ble_eq_true rfl) rfl rfl rfl (lw_V q776 q778 qs15 q126 q779) ⟨rfl, by decide, by decide, rfl⟩ ⟨(Nat.le_of_ble_eq_true rfl), (Nat.le_of_ble_eq_true rfl)⟩ hk30 (Nat.le_of_ble_eq_true rfl) dX12_step_118 rfl (fun r33 σ32 xsx hh => ?_)
        obtain ⟨d31, rfl, h⟩ := hh
        exact hR _ _ _ _ _ _ _ dX12_step_121 rfl hk30.1 hk30.2 ⟨_, rfl, h⟩
set_option maxRecDepth 100000 in
theorem wkd_X12_step_58 {Γ : ZG} {l : Launch} {D : va_G} {ds : Nat → ClassId} {ad : Nat → Nat} {δ : Nat × Nat} {mc ms : Nat} {post : Int → ZS → ZDy → Prop} (X : ZX Γ cX12_step RX12 10 269) (K : ZCap Γ l (ΘC D ds ad) 5 mc ms) (E : ZDe Γ (ds 5) δ) (hR : ZDretI Γ cX12_step .int mc ms (fun r σ xs => ∃ d : ZDy, xs = dyW (ds 5) δ (ad 75) (ad 76) d ∧ post r σ d)) : ∀ (N : Nat) (v1 : Int) (v2 : Int) (k : Nat) (n : Nat) (d : ZDy) (σ : ZS), zfix (wbd_X12_step_58 mc ms post) N (v1, v2, k, n, d, σ) → Z Γ k n σ (dyW (ds 5) δ (ad 75) (ad 76) d) 58 [(0, .ref (ad 65)), (1, .int (iz v1)), (2, .int (iz v2))] [] := by
  intro N
  induction N with
  | zero => intro v1 v2 k n d σ h; exact False.elim h
  | succ N ih =>
    intro v1 v2 k n d σ h
    have h : wbd_X12_step_58 mc ms post (zfix (wbd_X12_step_58 mc ms post) N) (v1, v2, k, n, d, σ) := h
    have hC58 := ih
    clear ih
    generalize zfix (wbd_X12_step_58 mc ms post) N = C58 at h hC58
    dsimp only [wbd_X12_step_58] at h
    obtain ⟨hkn, h⟩ := h
    refine z_iload_n X 2 dX12_step_58 rfl ?_
    refine z_aload_n X 0 dX12_step_59 rfl ?_
    refine gC_X12_36_X12 X K dX12_step_60 ?_
    refine z_enSize q591 X K rfl (Nat.le_of_ble_eq_true rfl) dX12_step_63 ⟨hkn.1, hkn.2⟩ ?_
    obtain ⟨i1, h⟩ := h
    obtain ⟨i2, h⟩ := h
    refine z_icmp_ge X 170 dX12_step_66 rfl i1 i2 (fun c3 => ?_) (fun c3 => ?_)
    · have h := h.1 c3
      exact h.elim
    · have h := h.2 c3
      refine z_aload_n X 0 dX12_step_69 rfl ?_
      refine gC_X12_36_X12 X K dX12_step_70 ?_
      refine z_iload_n X 2 dX12_step_73 rfl ?_
      obtain ⟨x4, h⟩ := h
      obtain ⟨g5, h⟩ := h
      refine z_enGet q595 X K rfl x4 ⟨i2, g5⟩ (Nat.le_of_ble_eq_true rfl) dX12_step_74 ⟨hkn.1, hkn.2⟩ ?_
      refine z_enCast q609 X K (isEn_c v2) dX12_step_77 ?_
      refine z_astore_nK X K (lv' := [(3, .ref (ad (encC v2))), (0, .ref (ad 65)), (1, .int (iz v1)), (2, .int (iz v2))]) dX12_step_80 rfl rfl ?_
      refine z_iconst X 1 dX12_step_81 ?_
      refine z_istoreK X K (lv' := [(4, .int (iz 1)), (3, .ref (ad (encC v2))), (0, .ref (ad 65)), (1, .int (iz v1)), (2, .int (iz v2))]) dX12_step_82 rfl rfl ?_
      obtain ⟨N, h⟩ := h
      exact z_sub [2, 3, 4, 1, 0] rfl (wkd_X12_step_84 X K E hR hC58 N _ _ _ _ _ _ _ _ h)
set_option maxRecDepth 100000 in
theorem wkd_X12_step_35 {Γ : ZG} {l : Launch} {D : va_G} {ds : Nat → ClassId} {ad : Nat → Nat} {δ : Nat × Nat} {mc ms : Nat} {post : Int → ZS → ZDy → Prop} (X : ZX Γ cX12_step RX12 10 269) (K : ZCap Γ l (ΘC D ds ad) 5 mc ms) (E : ZDe Γ (ds 5) δ) (hR : ZDretI Γ cX12_step .int mc ms (fun r σ xs => ∃ d : ZDy, xs = dyW (ds 5) δ (ad 75) (ad 76) d ∧ post r σ d)) (v1 : Int) (k : Nat) (n : Nat) (d : ZDy) (σ : ZS) (h : wd_X12_step_35 mc ms post v1 k n d σ) : Z Γ k n σ (dyW (ds 5) δ (ad 75) (ad 76) d) 35 [(0, .ref (ad 65)), (1, .int (iz v1))] [] := by
  obtain ⟨hkn, h⟩ := h
  refine z_aload_n X 0 dX12_step_35 rfl ?_
  refine z_iload_n X 1 dX12_step_36 rfl ?_
  refine z_iconst X 1 dX12_step_37 ?_
  refine z_aload_n X 0 dX12_step_38 rfl ?_
  refine z_iload_n X 1 dX12_step_39 rfl ?_
  refine clc_X12_65 X K rfl h (Nat.le_of_ble_eq_true rfl) dX12_step_40 ⟨hkn.1, hkn.2⟩ (fun r2 σ1 h => ?_)
  refine clc_X12_131 X K rfl h (Nat.le_of_ble_eq_true rfl) dX12_step_43 ⟨hkn.1, hkn.2⟩ (fun r4 σ3 h => ?_)
  obtain ⟨b4, h⟩ := h
  have h := h b4
  refine z_if_eq X 56 dX12_step_46 rfl (InR_b b4) (fun c5 => ?_) (fun c5 => ?_)
  · have h := h.1 c5
    refine z_iconst X 0 dX12_step_56 ?_
    refine z_istore_nK X K (lv' := [(2, .int (iz 0)), (0, .ref (ad 65)), (1, .int (iz v1))]) dX12_step_57 rfl rfl ?_
    obtain ⟨N, h⟩ := h
    exact z_sub [1, 2, 0] rfl (wkd_X12_step_58 X K E hR N _ _ _ _ _ _ h)
  · have h := h.2 c5
    refine z_aload_n X 0 dX12_step_49 rfl ?_
    refine z_iload_n X 1 dX12_step_50 rfl ?_
    refine z_iconst X 1 dX12_step_51 ?_
    obtain ⟨mc6, ms7, hk8, h⟩ := h
    refine zd_VI (C := RX12) (q0 := 65) X K E (mtd_X12_ascii l D ds ad δ v1 1 mc6 ms7 σ3 d _ h) (Nat.le_of_ble_eq_true rfl) rfl rfl rfl (lw_V q735 q737 qs13 q126 q738) ⟨rfl, by decide, by decide, rfl⟩ ⟨(Nat.le_of_ble_eq_true rfl), (Nat.le_of_ble_eq_true rfl)⟩ hk8 (Nat.le_of_ble_eq_true rfl) dX12_step_52 rfl (fun r11 σ10 xsx hh => ?_)
    obtain ⟨d9, rfl, h⟩ := hh
    exact hR _ _ _ _ _ _ _ dX12_step_55 rfl hk8.1 hk8.2 ⟨_, rfl, h⟩
set_option maxRecDepth 100000 in
theorem mtd_X12_step (l : Launch) (D : va_G) (ds : Nat → ClassId) (ad : Nat → Nat) (δ : Nat × Nat) (a0 : Int) (mc : Nat) (ms : Nat) (σ : ZS) (d : ZDy) (post : Int → ZS → ZDy → Prop) (h : wd_X12_step a0 mc ms σ d post) : ZDI l (ΘC D ds ad) (ds 5) δ yX12_step cX12_step 5 .int 10 269 mc ms [.ref (ad 65), .int (iz a0)] σ (dyW (ds 5) δ (ad 75) (ad 76) d) (fun r σ xs => ∃ d : ZDy, xs = dyW (ds 5) δ (ad 75) (ad 76) d ∧ post r σ d) := by
  refine ZDI.of (by decide) (Nat.le_of_ble_eq_true rfl) (fun Γ X K E hR => ?_)
  have X : ZX Γ cX12_step RX12 10 269 := X
  refine z_sub [0, 1] (lv' := [(0, .ref (ad 65)), (1, .int (iz a0))]) rfl ?_
  refine z_aload_n X 0 dX12_step_0 rfl ?_
  refine z_iload_n X 1 dX12_step_1 rfl ?_
  refine clc_X12_61 X K rfl h (Nat.le_of_ble_eq_true rfl) dX12_step_2 ⟨(⟨Nat.zero_le _, Nat.zero_le _⟩ : 0 ≤ mc ∧ 0 ≤ ms).1, (⟨Nat.zero_le _, Nat.zero_le _⟩ : 0 ≤ mc ∧ 0 ≤ ms).2⟩ (fun r2 σ1 h => ?_)
  obtain ⟨b2, h⟩ := h
  have h := h b2
  refine z_if_eq X 35 dX12_step_5 rfl (InR_b b2) (fun c3 => ?_) (fun c3 => ?_)
  · have h := h.1 c3
    exact z_sub [0, 1] rfl (wkd_X12_step_35 X K E hR _ _ _ _ _ h)
  · have h := h.2 c3
    refine z_aload_n X 0 dX12_step_8 rfl ?_
    refine z_iload_n X 1 dX12_step_9 rfl ?_
    refine z_iconst X 1 dX12_step_10 ?_
    refine z_iadd X dX12_step_11 ?_
    refine clc_X12_61 X K rfl h (Nat.le_of_ble_eq_true rfl) dX12_step_12 ⟨(⟨Nat.zero_le _, Nat.zero_le _⟩ : 0 ≤ mc ∧ 0 ≤ ms).1, (⟨Nat.zero_le _, Nat.zero_le _⟩ : 0 ≤ mc ∧ 0 ≤ ms).2⟩ (fun r5 σ4 h => ?_)
    obtain ⟨b5, h⟩ := h
    have h := h b5
    refine z_if_eq X 35 dX12_step_15 rfl (InR_b b5) (fun c6 => ?_) (fun c6 => ?_)
    · have h := h.1 c6
      exact z_sub [0, 1] rfl (wkd_X12_step_35 X K E hR _ _ _ _ _ h)
    · have h := h.2 c6
      refine z_aload_n X 0 dX12_step_18 rfl ?_
      refine z_iload_n X 1 dX12_step_19 rfl ?_
      refine z_iconst X 2 dX12_step_20 ?_
      refine z_iconst X 1 dX12_step_21 ?_
      refine clc_X12_131 X K rfl h (Nat.le_of_ble_eq_true rfl) dX12_step_22 ⟨(⟨Nat.zero_le _, Nat.zero_le _⟩ : 0 ≤ mc ∧ 0 ≤ ms).1, (⟨Nat.zero_le _, Nat.zero_le _⟩ : 0 ≤ mc ∧ 0 ≤ ms).2⟩ (fun r8 σ7 h => ?_)
      obtain ⟨b8, h⟩ := h
      have h := h b8
      refine z_if_eq X 35 dX12_step_25 rfl (InR_b b8) (fun c9 => ?_) (fun c9 => ?_)
      · have h := h.1 c9
        exact z_sub [0, 1] rfl (wkd_X12_step_35 X K E hR _ _ _ _ _ h)
      · have h := h.2 c9
        refine z_aload_n X 0 dX12_step_28 rfl ?_
        refine z_iload_n X 1 dX12_step_29 rfl ?_
        refine z_iconst X 2 dX12_step_30 ?_
        obtain ⟨mc10, ms11, hk12, h⟩ := h
        refine zd_VI (C := RX12) (q0 := 65) X K E (mtd_X12_ascii l D ds ad δ a0 2 mc10 ms11 σ7 d _ h) (Nat.le_of_ble_eq_true rfl) rfl rfl rfl (lw_V q735 q737 qs13 q126 q738) ⟨rfl, by decide, by decide, rfl⟩ ⟨(Nat.le_of_ble_eq_true rfl), (Nat.le_of_ble_eq_true rfl)⟩ hk12 (Nat.le_of_ble_eq_true rfl) dX12_step_31 rfl (fun r15 σ14 xsx hh => ?_)
        obtain ⟨d13, rfl, h⟩ := hh
        exact hR _ _ _ _ _ _ _ dX12_step_34 rfl hk12.1 hk12.2 ⟨_, rfl, h⟩
/- X12_write -/
def wbd_X12_write_31 (mc ms : Nat) (post : ZS → ZDy → Prop) (C31 : Int × Nat × Nat × ZDy × ZS → Prop) : Int × Nat × Nat × ZDy × ZS → Prop := fun (v1, k, n, d, σ) =>
  (k ≤ mc ∧ n ≤ ms) ∧
  (InR v1) ∧
  (InR (σ 65 3)) ∧
  (((σ 65 3) ≤ v1 →
    (InR (σ 48 3)) ∧
    (InR (σ 65 10)) ∧
    (((σ 65 10) ≤ (σ 48 3) →
      post σ d
    ) ∧
    ((σ 48 3) < (σ 65 10) →
      wc_X4_put 129 σ (fun σ7 => 
      wc_X4_pads σ7 (fun σ8 => 
      post σ8 d))
    ))
  ) ∧
  (v1 < (σ 65 3) →
    ∃ mc9 ms10 : Nat, (k + mc9 ≤ mc ∧ n + ms10 ≤ ms) ∧ wd_X12_step v1 mc9 ms10 σ d (fun r14 σ13 d12 =>
    C31 (r14, k + mc9, n + ms10, d12, σ13))
  ))
def wd_X12_write (mc : Nat) (ms : Nat) (σ : ZS) (d : ZDy) (post : ZS → ZDy → Prop) : Prop :=
  (yOK d.1) ∧
  ∀ d2 : ZDy, d2 = dyClr1 d →
  wc_X4_begin 48 (σ 65 10) σ (fun σ3 => 
  (InR (σ3 65 11)) ∧
  ((¬ (σ3 65 11) = 0 →
    ∃ N : Nat, zfix (wbd_X12_write_31 mc ms post) N (0, 0, 0, d2, σ3)
  ) ∧
  ((σ3 65 11) = 0 →
    wc_X12_leads σ3 (fun σ6 => 
    ∃ N : Nat, zfix (wbd_X12_write_31 mc ms post) N (0, 0, 0, d2, σ6))
  )))
theorem clc_X12_124 {Γ : ZG} {cc : ByteArray} {fr lo nL mc0 ms0 k n pc : Nat} {xs : va_W} {lv : List (Nat × Value)} {st : List Value} {l : Launch} {D : va_G} {ds : Nat → ClassId} {ad : Nat → Nat} {σ : ZS} {post : ZS → Prop} (X : ZX Γ cc RX12 fr lo) (K : ZCap Γ l (ΘC D ds ad) nL mc0 ms0) (hrm : zroom 4 65 fr lo = true) (h : wc_X4_pads σ post) (hst : (st.map fun v => v.category).sum ≤ 8) (d : decode cc pc = .ok (.invokevirtual 124, 3)) (hcs : k ≤ mc0 ∧ n ≤ ms0) (kk : ∀ (σ' : ZS), post σ' → Z Γ k n σ' xs (pc + 3) lv (st)) : Z Γ k n σ xs pc lv (.ref (ad 48) :: st) := 
  z_callVV' (C := RX4) (q0 := 48) X K (mtc_X4_pads l D ds ad  σ post h) (Nat.le_of_ble_eq_true rfl) rfl rfl rfl (lw_V q897 q898 q899 q111 q900) ⟨rfl, by decide, by decide, rfl⟩ (zroom_of (zroom_le hrm (by decide))) ⟨by rw [K.2.2.2.1]; exact hcs.1, by rw [K.2.2.2.2]; exact hcs.2⟩ hst d rfl kk
theorem clc_X12_107 {Γ : ZG} {cc : ByteArray} {fr lo nL mc0 ms0 k n pc : Nat} {xs : va_W} {lv : List (Nat × Value)} {st : List Value} {l : Launch} {D : va_G} {ds : Nat → ClassId} {ad : Nat → Nat} {a0 : Int} {σ : ZS} {post : ZS → Prop} (X : ZX Γ cc RX12 fr lo) (K : ZCap Γ l (ΘC D ds ad) nL mc0 ms0) {o : Nat} (ho : isSt o) (hrm : zroom 3 45 fr lo = true) (h : wc_X4_begin o a0 σ post) (hst : (st.map fun v => v.category).sum ≤ 8) (d : decode cc pc = .ok (.invokevirtual 107, 3)) (hcs : k ≤ mc0 ∧ n ≤ ms0) (kk : ∀ (σ' : ZS), post σ' → Z Γ k n σ' xs (pc + 3) lv (st)) : Z Γ k n σ xs pc lv (.int (iz a0) :: .ref (ad o) :: st) := by
  rcases ho with rfl | rfl
  · exact z_callVV' (C := RX4) (q0 := 45) X K (mtc_X4_begin l D ds ad 45 a0 σ post h) (Nat.le_of_ble_eq_true rfl) rfl rfl rfl (lw_V q715 q716 q717 q111 q718) ⟨rfl, by decide, by decide, rfl⟩ (zroom_of (zroom_le hrm (by decide))) ⟨by rw [K.2.2.2.1]; exact hcs.1, by rw [K.2.2.2.2]; exact hcs.2⟩ hst d rfl kk
  · exact z_callVV' (C := RX4) (q0 := 48) X K (mtc_X4_begin l D ds ad 48 a0 σ post h) (Nat.le_of_ble_eq_true rfl) rfl rfl rfl (lw_V q715 q716 q717 q111 q718) ⟨rfl, by decide, by decide, rfl⟩ (zroom_of (zroom_le hrm (by decide))) ⟨by rw [K.2.2.2.1]; exact hcs.1, by rw [K.2.2.2.2]; exact hcs.2⟩ hst d rfl kk
theorem clc_X12_113 {Γ : ZG} {cc : ByteArray} {fr lo nL mc0 ms0 k n pc : Nat} {xs : va_W} {lv : List (Nat × Value)} {st : List Value} {l : Launch} {D : va_G} {ds : Nat → ClassId} {ad : Nat → Nat} {σ : ZS} {post : ZS → Prop} (X : ZX Γ cc RX12 fr lo) (K : ZCap Γ l (ΘC D ds ad) nL mc0 ms0) (hrm : zroom 6 138 fr lo = true) (h : wc_X12_leads σ post) (hst : (st.map fun v => v.category).sum ≤ 8) (d : decode cc pc = .ok (.invokevirtual 113, 3)) (hcs : k ≤ mc0 ∧ n ≤ ms0) (kk : ∀ (σ' : ZS), post σ' → Z Γ k n σ' xs (pc + 3) lv (st)) : Z Γ k n σ xs pc lv (.ref (ad 65) :: st) := 
  z_callVV' (C := RX12) (q0 := 65) X K (mtc_X12_leads l D ds ad  σ post h) (Nat.le_of_ble_eq_true rfl) rfl rfl rfl (lw_V q719 q721 qs9 q126 q722) ⟨rfl, by decide, by decide, rfl⟩ (zroom_of (zroom_le hrm (by decide))) ⟨by rw [K.2.2.2.1]; exact hcs.1, by rw [K.2.2.2.2]; exact hcs.2⟩ hst d rfl kk
set_option maxRecDepth 100000 in
theorem wkd_X12_write_31 {Γ : ZG} {l : Launch} {D : va_G} {ds : Nat → ClassId} {ad : Nat → Nat} {δ : Nat × Nat} {mc ms : Nat} {post : ZS → ZDy → Prop} (X : ZX Γ cX12_write RX12 11 293) (K : ZCap Γ l (ΘC D ds ad) 2 mc ms) (E : ZDe Γ (ds 5) δ) (hR : ZDretV Γ cX12_write mc ms (fun σ xs => ∃ d : ZDy, xs = dyW (ds 5) δ (ad 75) (ad 76) d ∧ post σ d)) : ∀ (N : Nat) (v1 : Int) (k : Nat) (n : Nat) (d : ZDy) (σ : ZS), zfix (wbd_X12_write_31 mc ms post) N (v1, k, n, d, σ) → Z Γ k n σ (dyW (ds 5) δ (ad 75) (ad 76) d) 31 [(0, .ref (ad 65)), (1, .int (iz v1))] [] := by
  intro N
  induction N with
  | zero => intro v1 k n d σ h; exact False.elim h
  | succ N ih =>
    intro v1 k n d σ h
    have h : wbd_X12_write_31 mc ms post (zfix (wbd_X12_write_31 mc ms post) N) (v1, k, n, d, σ) := h
    have hC31 := ih
    clear ih
    generalize zfix (wbd_X12_write_31 mc ms post) N = C31 at h hC31
    dsimp only [wbd_X12_write_31] at h
    obtain ⟨hkn, h⟩ := h
    refine z_iload_n X 1 dX12_write_31 rfl ?_
    refine z_aload_n X 0 dX12_write_32 rfl ?_
    refine gC_X12_43_X12 X K dX12_write_33 ?_
    obtain ⟨i1, h⟩ := h
    obtain ⟨i2, h⟩ := h
    refine z_icmp_ge X 48 dX12_write_36 rfl i1 i2 (fun c3 => ?_) (fun c3 => ?_)
    · have h := h.1 c3
      refine z_aload_n X 0 dX12_write_48 rfl ?_
      refine gC_X12_39_X12 X K dX12_write_49 ?_
      refine gC_X12_118_X4 X K (Or.inr rfl) dX12_write_52 ?_
      refine z_aload_n X 0 dX12_write_55 rfl ?_
      refine gC_X12_79_X12 X K dX12_write_56 ?_
      obtain ⟨i4, h⟩ := h
      obtain ⟨i5, h⟩ := h
      refine z_icmp_ge X 79 dX12_write_59 rfl i4 i5 (fun c6 => ?_) (fun c6 => ?_)
      · have h := h.1 c6
        exact hR _ _ _ _ _ _ dX12_write_79 hkn.1 hkn.2 ⟨_, rfl, h⟩
      · have h := h.2 c6
        refine z_aload_n X 0 dX12_write_62 rfl ?_
        refine gC_X12_39_X12 X K dX12_write_63 ?_
        refine z_sipush X 129 dX12_write_66 rfl ?_
        refine clc_X12_121 X K rfl h (Nat.le_of_ble_eq_true rfl) dX12_write_69 ⟨hkn.1, hkn.2⟩ (fun σ7 h => ?_)
        refine z_aload_n X 0 dX12_write_72 rfl ?_
        refine gC_X12_39_X12 X K dX12_write_73 ?_
        refine clc_X12_124 X K rfl h (Nat.le_of_ble_eq_true rfl) dX12_write_76 ⟨hkn.1, hkn.2⟩ (fun σ8 h => ?_)
        exact hR _ _ _ _ _ _ dX12_write_79 hkn.1 hkn.2 ⟨_, rfl, h⟩
    · have h := h.2 c3
      refine z_aload_n X 0 dX12_write_39 rfl ?_
      refine z_iload_n X 1 dX12_write_40 rfl ?_
      obtain ⟨mc9, ms10, hk11, h⟩ := h
      refine zd_VI (C := RX12) (q0 := 65) X K E (mtd_X12_step l D ds ad δ v1 mc9 ms10 σ d _ h) (Nat.le_of_ble_eq_true rfl) rfl rfl rfl (lw_V q727 q729 qs11 q126 q730) ⟨rfl, by decide, by decide, rfl⟩ ⟨(Nat.le_of_ble_eq_true rfl), (Nat.le_of_ble_eq_true rfl)⟩ hk11 (Nat.le_of_ble_eq_true rfl) dX12_write_41 rfl (fun r14 σ13 xsx hh => ?_)
      obtain ⟨d12, rfl, h⟩ := hh
      refine z_istore_nK X K (lv' := [(1, .int (iz r14)), (0, .ref (ad 65))]) dX12_write_44 rfl rfl ?_
      refine z_goto (tgt := 31) X dX12_write_45 rfl ?_
      exact z_sub [1, 0] rfl (hC31 _ _ _ _ _ h)
set_option maxRecDepth 100000 in
theorem mtd_X12_write (l : Launch) (D : va_G) (ds : Nat → ClassId) (ad : Nat → Nat) (δ : Nat × Nat) (mc : Nat) (ms : Nat) (σ : ZS) (d : ZDy) (post : ZS → ZDy → Prop) (h : wd_X12_write mc ms σ d post) : ZDV l (ΘC D ds ad) (ds 5) δ yX12_write cX12_write 2 11 293 mc ms [.ref (ad 65)] σ (dyW (ds 5) δ (ad 75) (ad 76) d) (fun σ xs => ∃ d : ZDy, xs = dyW (ds 5) δ (ad 75) (ad 76) d ∧ post σ d) := by
  refine ZDV.of (by decide) (Nat.le_of_ble_eq_true rfl) (fun Γ X K E hR => ?_)
  have X : ZX Γ cX12_write RX12 11 293 := X
  refine z_sub [0] (lv' := [(0, .ref (ad 65))]) rfl ?_
  refine z_aload_n X 0 dX12_write_0 rfl ?_
  refine gC_X12_32_X12 X K dX12_write_1 ?_
  obtain ⟨g1, h⟩ := h
  refine z_dyClr1 q711 X K E rfl (Nat.le_of_ble_eq_true rfl) dX12_write_4 g1 (⟨(⟨Nat.zero_le _, Nat.zero_le _⟩ : 0 ≤ mc ∧ 0 ≤ ms).1, (⟨Nat.zero_le _, Nat.zero_le _⟩ : 0 ≤ mc ∧ 0 ≤ ms).2⟩) (fun d2 ed2 => ?_)
  have h := h d2 ed2
  refine z_aload_n X 0 dX12_write_7 rfl ?_
  refine gC_X12_39_X12 X K dX12_write_8 ?_
  refine z_aload_n X 0 dX12_write_11 rfl ?_
  refine gC_X12_79_X12 X K dX12_write_12 ?_
  refine clc_X12_107 X K (Or.inr rfl) rfl h (Nat.le_of_ble_eq_true rfl) dX12_write_15 ⟨(⟨Nat.zero_le _, Nat.zero_le _⟩ : 0 ≤ mc ∧ 0 ≤ ms).1, (⟨Nat.zero_le _, Nat.zero_le _⟩ : 0 ≤ mc ∧ 0 ≤ ms).2⟩ (fun σ3 h => ?_)
  refine z_iconst X 0 dX12_write_18 ?_
  refine z_istore_nK X K (lv' := [(1, .int (iz 0)), (0, .ref (ad 65))]) dX12_write_19 rfl rfl ?_
  refine z_aload_n X 1 dX12_write_20 rfl ?_
  refine gC_X12_97_X12 X K dX12_write_21 ?_
  obtain ⟨i4, h⟩ := h
  refine z_if_ne X 31 dX12_write_24 rfl i4 (fun c5 => ?_) (fun c5 => ?_)
  · have h := h.1 c5
    obtain ⟨N, h⟩ := h
    exact z_sub [1, 0] rfl (wkd_X12_write_31 X K E hR N _ _ _ _ _ h)
  · have h := h.2 c5
    refine z_aload_n X 1 dX12_write_27 rfl ?_
    refine clc_X12_113 X K rfl h (Nat.le_of_ble_eq_true rfl) dX12_write_28 ⟨(⟨Nat.zero_le _, Nat.zero_le _⟩ : 0 ≤ mc ∧ 0 ≤ ms).1, (⟨Nat.zero_le _, Nat.zero_le _⟩ : 0 ≤ mc ∧ 0 ≤ ms).2⟩ (fun σ6 h => ?_)
    obtain ⟨N, h⟩ := h
    exact z_sub [1, 0] rfl (wkd_X12_write_31 X K E hR N _ _ _ _ _ h)
