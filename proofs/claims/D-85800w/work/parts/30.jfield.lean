/-! the field's constructor (printed by tools/walkgenF.py) -/
def fwN (v : Int) : Int := if v < 128 then zxor (v * 2) 0 else zxor (v * 2) 301
def fwV : Nat → Int
  | 0 => 1
  | k + 1 => fwN (fwV k)
def fwP : Nat → Int → Int
  | 0 => fun _ => 0
  | k + 1 => fun j => if j = (k : Int) + 255 then fwV k else if j = (k : Int) then fwV k else fwP k j
def fwL : Nat → Int → Int
  | 0 => fun _ => 0
  | k + 1 => fun j => if j = fwV k then (k : Int) else fwL k j
theorem fwN_in : ∀ v : Int, 0 ≤ v ∧ v < 256 → 0 ≤ fwN v ∧ fwN v < 256 := by
  have h : ∀ j : Nat, j < 256 → 0 ≤ fwN (j : Int) ∧ fwN (j : Int) < 256 := by decide +kernel
  intro v hv
  have := h v.toNat (by omega)
  rwa [Int.toNat_of_nonneg hv.1] at this
theorem fwV_in : ∀ k : Nat, 0 ≤ fwV k ∧ fwV k < 256 := by
  intro k
  induction k with
  | zero => exact ⟨by decide, by decide⟩
  | succ k ih => exact fwN_in _ ih
abbrev jfFS (q0 q1 q2 q3 q4 q5 q6 q7 q8 : Nat) : List Value := [.ref q0, .ref q1, .ref q2, .ref q3, .ref q4, .ref q5, .ref q6, .ref q7, .ref q8]
abbrev jfW (ds : Nat → ClassId) (o q0 q1 q2 q3 q4 q5 q6 q7 q8 : Nat) (fp fl : Int → Int) (tl : va_W) : va_W := (o, .inr (4, jfFS q0 q1 q2 q3 q4 q5 q6 q7 q8)) :: jNu (ds 0) q8 70 (fun _ => 0) :: jNu (ds 0) q7 70 (fun _ => 0) :: jNu (ds 0) q6 70 (fun _ => 0) :: jNu (ds 0) q5 70 (fun _ => 0) :: jNu (ds 0) q4 68 (fun _ => 0) :: jNu (ds 0) q3 256 (fun _ => 0) :: jNu (ds 0) q2 69 (fun _ => 0) :: jNu (ds 0) q1 256 fl :: jNu (ds 0) q0 510 fp :: tl
set_option maxRecDepth 100000 in
theorem ji_X3_init {l : Launch} {Θ : ZTh} {ds : Nat → ClassId} {δ : Nat × Nat} {σ : ZS} {tl : va_W} (hT : zt_cl Θ = (RX13, TX13, 61) :: clC) (hY : zt_ty Θ = ty6 ds) (o : Nat) : ZDV l (zR Θ) (ds 5) δ yX3_init cX3_init 3 1 30 9 1439 [.ref o] σ ((o, .inr (4, [.null, .null, .null, .null, .null, .null, .null, .null, .null])) :: tl) (fun _ ys => ∃ q0 q1 q2 q3 q4 q5 q6 q7 q8 : Nat, ys = (jfW ds o q0 q1 q2 q3 q4 q5 q6 q7 q8 (fwP 255) (fwL 255) tl)) := by
  refine ZDV.ofI (by decide) (Nat.le_of_ble_eq_true rfl) (fun Γ X K E hn R => ?_)
  have hc0 : (zt_cl (zR Θ))[4]? = some (RX3, TX3, 9) := by
    show (zt_cl Θ)[4]? = _
    rw [hT]
    rfl
  have ht0 : (zt_ty (zR Θ))[0]? = some (ds 0, .int) := by
    show (zt_ty Θ)[0]? = _
    rw [hY]
    rfl
  have l0 : ([.null, .null, .null, .null, .null, .null, .null, .null, .null] : List Value).length = 9 := rfl
  refine z_aload_n X 0 dX3_init_0 rfl ?_
  refine z_objInit X q184 (Nat.le_of_ble_eq_true rfl) (Nat.le_of_ble_eq_true rfl) dX3_init_1 ?_
  refine z_aload_n X 0 dX3_init_4 rfl ?_
  refine z_sipush X 510 dX3_init_5 rfl ?_
  refine zx_newI (t0 := 0) (N' := 510) X K ht0 rfl (by decide) ⟨by omega, by omega⟩ dX3_init_8 (fun q0 => ?_)
  refine zx_putSF (C := RX3) (T := TX3) (ref := RX3) (ty := .array .int) X K in_X3 tyX3 tyX3_ok nmX3 hc0 0 (by decide) q185 (fun _ h => h) rfl hn rfl (by decide +kernel) rfl rfl l0 dX3_init_10 (fun fs1 e1 l1 => ?_)
  refine z_aload_n X 0 dX3_init_13 rfl ?_
  refine z_sipush X 256 dX3_init_14 rfl ?_
  refine zx_newI (t0 := 0) (N' := 256) X K ht0 rfl (by decide) ⟨by omega, by omega⟩ dX3_init_17 (fun q1 => ?_)
  refine zx_putSF (C := RX3) (T := TX3) (ref := RX3) (ty := .array .int) X K in_X3 tyX3 tyX3_ok nmX3 hc0 1 (by decide) q186 (fun _ h => h) rfl hn rfl (by decide +kernel) rfl rfl l1 dX3_init_19 (fun fs2 e2 l2 => ?_)
  refine z_aload_n X 0 dX3_init_22 rfl ?_
  refine z_bipush X 69 dX3_init_23 rfl ?_
  refine zx_newI (t0 := 0) (N' := 69) X K ht0 rfl (by decide) ⟨by omega, by omega⟩ dX3_init_25 (fun q2 => ?_)
  refine zx_putSF (C := RX3) (T := TX3) (ref := RX3) (ty := .array .int) X K in_X3 tyX3 tyX3_ok nmX3 hc0 2 (by decide) q187 (fun _ h => h) rfl hn rfl (by decide +kernel) rfl rfl l2 dX3_init_27 (fun fs3 e3 l3 => ?_)
  refine z_aload_n X 0 dX3_init_30 rfl ?_
  refine z_sipush X 256 dX3_init_31 rfl ?_
  refine zx_newI (t0 := 0) (N' := 256) X K ht0 rfl (by decide) ⟨by omega, by omega⟩ dX3_init_34 (fun q3 => ?_)
  refine zx_putSF (C := RX3) (T := TX3) (ref := RX3) (ty := .array .int) X K in_X3 tyX3 tyX3_ok nmX3 hc0 3 (by decide) q188 (fun _ h => h) rfl hn rfl (by decide +kernel) rfl rfl l3 dX3_init_36 (fun fs4 e4 l4 => ?_)
  refine z_aload_n X 0 dX3_init_39 rfl ?_
  refine z_bipush X 68 dX3_init_40 rfl ?_
  refine zx_newI (t0 := 0) (N' := 68) X K ht0 rfl (by decide) ⟨by omega, by omega⟩ dX3_init_42 (fun q4 => ?_)
  refine zx_putSF (C := RX3) (T := TX3) (ref := RX3) (ty := .array .int) X K in_X3 tyX3 tyX3_ok nmX3 hc0 4 (by decide) q190 (fun _ h => h) rfl hn rfl (by decide +kernel) rfl rfl l4 dX3_init_44 (fun fs5 e5 l5 => ?_)
  refine z_aload_n X 0 dX3_init_47 rfl ?_
  refine z_bipush X 70 dX3_init_48 rfl ?_
  refine zx_newI (t0 := 0) (N' := 70) X K ht0 rfl (by decide) ⟨by omega, by omega⟩ dX3_init_50 (fun q5 => ?_)
  refine zx_putSF (C := RX3) (T := TX3) (ref := RX3) (ty := .array .int) X K in_X3 tyX3 tyX3_ok nmX3 hc0 5 (by decide) q191 (fun _ h => h) rfl hn rfl (by decide +kernel) rfl rfl l5 dX3_init_52 (fun fs6 e6 l6 => ?_)
  refine z_aload_n X 0 dX3_init_55 rfl ?_
  refine z_bipush X 70 dX3_init_56 rfl ?_
  refine zx_newI (t0 := 0) (N' := 70) X K ht0 rfl (by decide) ⟨by omega, by omega⟩ dX3_init_58 (fun q6 => ?_)
  refine zx_putSF (C := RX3) (T := TX3) (ref := RX3) (ty := .array .int) X K in_X3 tyX3 tyX3_ok nmX3 hc0 6 (by decide) q192 (fun _ h => h) rfl hn rfl (by decide +kernel) rfl rfl l6 dX3_init_60 (fun fs7 e7 l7 => ?_)
  refine z_aload_n X 0 dX3_init_63 rfl ?_
  refine z_bipush X 70 dX3_init_64 rfl ?_
  refine zx_newI (t0 := 0) (N' := 70) X K ht0 rfl (by decide) ⟨by omega, by omega⟩ dX3_init_66 (fun q7 => ?_)
  refine zx_putSF (C := RX3) (T := TX3) (ref := RX3) (ty := .array .int) X K in_X3 tyX3 tyX3_ok nmX3 hc0 7 (by decide) q193 (fun _ h => h) rfl hn rfl (by decide +kernel) rfl rfl l7 dX3_init_68 (fun fs8 e8 l8 => ?_)
  refine z_aload_n X 0 dX3_init_71 rfl ?_
  refine z_bipush X 70 dX3_init_72 rfl ?_
  refine zx_newI (t0 := 0) (N' := 70) X K ht0 rfl (by decide) ⟨by omega, by omega⟩ dX3_init_74 (fun q8 => ?_)
  refine zx_putSF (C := RX3) (T := TX3) (ref := RX3) (ty := .array .int) X K in_X3 tyX3 tyX3_ok nmX3 hc0 8 (by decide) q194 (fun _ h => h) rfl hn rfl (by decide +kernel) rfl rfl l8 dX3_init_76 (fun fs9 e9 l9 => ?_)
  refine z_iconst X 1 dX3_init_79 ?_
  refine z_istore_nK X K dX3_init_80 rfl rfl ?_
  refine z_iconst X 0 dX3_init_81 ?_
  refine z_istore_nK X K dX3_init_82 rfl rfl ?_
  have efs : fs9 = jfFS q0 q1 q2 q3 q4 q5 q6 q7 q8 := by
    rw [e9, e8, e7, e6, e5, e4, e3, e2, e1]
    rfl
  rw [efs]
  have key : ∀ c i : Nat, i + c = 255 → Z Γ 9 1439 σ (jfW ds o q0 q1 q2 q3 q4 q5 q6 q7 q8 (fwP i) (fwL i) tl) 83 [(2, .int (iz (i : Int))), (1, .int (iz (fwV i))), (0, .ref o)] [] := by
    intro c
    induction c with
    | zero =>
      intro i hi
      have hi : i = 255 := by omega
      subst hi
      refine z_iload_n X 0 dX3_init_83 rfl ?_
      refine z_sipush X 255 dX3_init_84 rfl ?_
      refine z_icmp_ge X 140 dX3_init_87 (by decide) ⟨by decide, by decide⟩ ⟨by decide, by decide⟩ (fun _ => ?_) (fun q => absurd q (by decide))
      exact R _ _ _ _ _ _ dX3_init_140 (Nat.le_refl _) (Nat.le_refl _) ⟨_, _, _, _, _, _, _, _, _, rfl⟩
    | succ c ih =>
      intro i hi
      have hv := fwV_in i
      have hz : InR (i : Int) := ⟨by omega, by omega⟩
      have hzv : InR (fwV i) := ⟨by omega, by omega⟩
      have h1 := ih (i + 1) (by omega)
      refine z_iload_n X 0 dX3_init_83 rfl ?_
      refine z_sipush X 255 dX3_init_84 rfl ?_
      refine z_icmp_ge X 140 dX3_init_87 (by decide) hz ⟨by decide, by decide⟩ (fun q => absurd q (by omega)) (fun _ => ?_)
      refine z_aload_n X 2 dX3_init_90 rfl ?_
      refine zx_get (C := RX3) (T := TX3) (N0 := 9) (ref := RX3) X K in_X3 0 rfl hc0 0 (by decide) q185 (fun _ h => h) rfl dX3_init_91 ?_
      refine z_iload_n X 0 dX3_init_94 rfl ?_
      refine z_iload_n X 1 dX3_init_95 rfl ?_
      refine zx_astI (f := fwP i) X K 9 0 rfl ht0 (by decide) ⟨by omega, by omega⟩ dX3_init_96 ?_
      refine z_aload_n X 2 dX3_init_97 rfl ?_
      refine zx_get (C := RX3) (T := TX3) (N0 := 9) (ref := RX3) X K in_X3 0 rfl hc0 0 (by decide) q185 (fun _ h => h) rfl dX3_init_98 ?_
      refine z_iload_n X 0 dX3_init_101 rfl ?_
      refine z_sipush X 255 dX3_init_102 rfl ?_
      refine z_iadd X dX3_init_105 ?_
      refine z_iload_n X 1 dX3_init_106 rfl ?_
      refine zx_astI (f := fun j => if j = (i : Int) then fwV i else fwP i j) X K 9 0 rfl ht0 (by decide) ⟨by omega, by omega⟩ dX3_init_107 ?_
      refine z_aload_n X 2 dX3_init_108 rfl ?_
      refine zx_get (C := RX3) (T := TX3) (N0 := 9) (ref := RX3) X K in_X3 0 rfl hc0 1 (by decide) q186 (fun _ h => h) rfl dX3_init_109 ?_
      refine z_iload_n X 1 dX3_init_112 rfl ?_
      refine z_iload_n X 0 dX3_init_113 rfl ?_
      refine zx_astI (f := fwL i) X K 8 0 rfl ht0 (by decide) ⟨by omega, by omega⟩ dX3_init_114 ?_
      refine z_iload_n X 1 dX3_init_115 rfl ?_
      refine z_iconst X 1 dX3_init_116 ?_
      refine z_ishlm X 1 (M := 2) rfl rfl rfl dX3_init_117 ?_
      refine z_iload_n X 1 dX3_init_118 rfl ?_
      refine z_sipush X 128 dX3_init_119 rfl ?_
      refine z_icmp_lt X 131 dX3_init_122 (by decide) hzv ⟨by decide, by decide⟩ (fun q => ?_) (fun q => ?_)
      · have e : fwV (i + 1) = zxor (fwV i * 2) 0 := if_pos q
        refine z_iconst X 0 dX3_init_131 ?_
        refine z_ixor X dX3_init_132 ?_
        refine z_istore_nK X K dX3_init_133 rfl rfl ?_
        refine z_iincK X K 1 dX3_init_134 rfl rfl rfl ?_
        refine z_goto X (tgt := 83) dX3_init_137 (by decide) ?_
        rw [e] at h1
        exact h1
      · have e : fwV (i + 1) = zxor (fwV i * 2) 301 := if_neg (by omega)
        refine z_sipush X 301 dX3_init_125 rfl ?_
        refine z_goto X (tgt := 132) dX3_init_128 (by decide) ?_
        refine z_ixor X dX3_init_132 ?_
        refine z_istore_nK X K dX3_init_133 rfl rfl ?_
        refine z_iincK X K 1 dX3_init_134 rfl rfl rfl ?_
        refine z_goto X (tgt := 83) dX3_init_137 (by decide) ?_
        rw [e] at h1
        exact h1
  refine z_kn (k' := 9) (n' := 1439) rfl rfl ?_
  exact key 255 0 rfl
