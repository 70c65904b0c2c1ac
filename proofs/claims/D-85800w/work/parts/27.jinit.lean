/-! constructors that run straight on (printed by tools/walkgenI.py) -/
theorem ji_J0_init_J2 {l : Launch} {Θ : ZTh} {ds : Nat → ClassId} {δ : Nat × Nat} {σ : ZS} {tl : va_W} (hT : zt_cl Θ = (RX13, TX13, 61) :: clC) (hY : zt_ty Θ = ty6 ds) (o : Nat) : ZDV l (zR Θ) (ds 5) δ yJ0_init cJ0_init 1 1 24 0 0 [.ref o] σ ((o, .inr (6, [.int (iz 0), .null, .int (iz 0)])) :: tl) (fun _ ys => ys = (o, .inr (6, [.int (iz 0), .null, .int (iz 0)])) :: tl) := by
  refine ZDV.ofI (by decide) (Nat.le_of_ble_eq_true rfl) (fun Γ X K E hn R => ?_)
  have hT : zt_cl (zR Θ) = (RX13, TX13, 61) :: clC := hT
  have hY : zt_ty (zR Θ) = ty6 ds := hY
  refine z_aload_n X 0 dJ0_init_0 rfl ?_
  refine z_objInit X q254 (Nat.le_of_ble_eq_true rfl) (Nat.le_of_ble_eq_true rfl) dJ0_init_1 ?_
  exact R _ _ _ _ _ _ dJ0_init_4 (by omega) (by omega) rfl
theorem ji_J1_init_J2 {l : Launch} {Θ : ZTh} {ds : Nat → ClassId} {δ : Nat × Nat} {σ : ZS} {tl : va_W} (hT : zt_cl Θ = (RX13, TX13, 61) :: clC) (hY : zt_ty Θ = ty6 ds) (o : Nat) : ZDV l (zR Θ) (ds 5) δ yJ1_init cJ1_init 1 2 44 0 0 [.ref o] σ ((o, .inr (6, [.int (iz 0), .null, .int (iz 0)])) :: tl) (fun _ ys => ys = (o, .inr (6, [.int (iz 0), .null, .int (iz 0)])) :: tl) := by
  refine ZDV.ofI (by decide) (Nat.le_of_ble_eq_true rfl) (fun Γ X K E hn R => ?_)
  have hT : zt_cl (zR Θ) = (RX13, TX13, 61) :: clC := hT
  have hY : zt_ty (zR Θ) = ty6 ds := hY
  refine z_aload_n X 0 dJ1_init_0 rfl ?_
  refine zd_rU (σR := σ) X K E (ji_J0_init_J2 (Θ := zR Θ) (tl := tl) hT hY o) [] (by first | (rw [List.append_nil]; done) | (rw [List.append_nil]; exact List.Perm.refl _)) q251 q252 q112 q253 rfl ⟨by decide, by decide, rfl⟩ ⟨Nat.le_of_ble_eq_true rfl, Nat.le_of_ble_eq_true rfl⟩ ⟨by omega, by omega⟩ (Nat.le_of_ble_eq_true rfl) dJ1_init_1 rfl (fun σ' ys' hh => z_app0 ?_)
  subst hh
  refine z_aload_n X 0 dJ1_init_4 rfl ?_
  refine z_iconst X 0 dJ1_init_5 ?_
  refine zx_put (C := RJ2) (T := TJ2) (N0 := 3) (ref := RJ1) (ty := .int) X K in_J2 tyJ2 tyJ2_ok nmJ2 0 rfl (by rw [hT]; rfl) 0 (by decide) q261 (fun _ h => h) rfl (by decide +kernel) rfl rfl (Nat.le_of_ble_eq_true rfl) dJ1_init_6 ?_
  exact R _ _ _ _ _ _ dJ1_init_9 (by omega) (by omega) rfl
theorem ji_J2_init_2_J2 {l : Launch} {Θ : ZTh} {ds : Nat → ClassId} {δ : Nat × Nat} {σ : ZS} {tl : va_W} (hT : zt_cl Θ = (RX13, TX13, 61) :: clC) (hY : zt_ty Θ = ty6 ds) (o : Nat) : ZDV l (zR Θ) (ds 5) δ yJ2_init_2 cJ2_init_2 1 3 64 0 0 [.ref o] σ ((o, .inr (6, [.int (iz 0), .null, .int (iz 0)])) :: tl) (fun _ ys => ys = (o, .inr (6, [.int (iz 0), .ref δ.1, .int (iz 0)])) :: tl) := by
  refine ZDV.ofI (by decide) (Nat.le_of_ble_eq_true rfl) (fun Γ X K E hn R => ?_)
  have hT : zt_cl (zR Θ) = (RX13, TX13, 61) :: clC := hT
  have hY : zt_ty (zR Θ) = ty6 ds := hY
  refine z_aload_n X 0 dJ2_init_2_0 rfl ?_
  refine zd_rU (σR := σ) X K E (ji_J1_init_J2 (Θ := zR Θ) (tl := tl) hT hY o) [] (by first | (rw [List.append_nil]; done) | (rw [List.append_nil]; exact List.Perm.refl _)) q248 q249 q113 q250 rfl ⟨by decide, by decide, rfl⟩ ⟨Nat.le_of_ble_eq_true rfl, Nat.le_of_ble_eq_true rfl⟩ ⟨by omega, by omega⟩ (Nat.le_of_ble_eq_true rfl) dJ2_init_2_1 rfl (fun σ' ys' hh => z_app0 ?_)
  subst hh
  refine z_aload_n X 0 dJ2_init_2_4 rfl ?_
  refine z_getDE X E q274 dJ2_init_2_5 ?_
  refine zx_put (C := RJ2) (T := TJ2) (N0 := 3) (ref := RJ2) (ty := .array (.object "java/lang/Object")) X K in_J2 tyJ2 tyJ2_ok nmJ2 0 rfl (by rw [hT]; rfl) 1 (by decide) q259 (fun _ h => h) rfl (by decide +kernel) rfl rfl (Nat.le_of_ble_eq_true rfl) dJ2_init_2_8 ?_
  exact R _ _ _ _ _ _ dJ2_init_2_11 (by omega) (by omega) rfl
theorem ji_J2_init_J2 {l : Launch} {Θ : ZTh} {ds : Nat → ClassId} {δ : Nat × Nat} {σ : ZS} {tl : va_W} (hT : zt_cl Θ = (RX13, TX13, 61) :: clC) (hY : zt_ty Θ = ty6 ds) (o : Nat) : ZDV l (zR Θ) (ds 5) δ yJ2_init cJ2_init 2 3 64 1 5 [.ref o, .int (iz 5)] σ ((o, .inr (6, [.int (iz 0), .null, .int (iz 0)])) :: tl) (fun _ ys => ∃ q0 : Nat, ys = jAr (ds 5) q0 5 (fun _ => none) :: (o, .inr (6, [.int (iz 0), .ref q0, .int (iz 0)])) :: tl) := by
  refine ZDV.ofI (by decide) (Nat.le_of_ble_eq_true rfl) (fun Γ X K E hn R => ?_)
  have hT : zt_cl (zR Θ) = (RX13, TX13, 61) :: clC := hT
  have hY : zt_ty (zR Θ) = ty6 ds := hY
  refine z_aload_n X 0 dJ2_init_0 rfl ?_
  refine zd_rU (σR := σ) X K E (ji_J1_init_J2 (Θ := zR Θ) (tl := tl) hT hY o) [] (by first | (rw [List.append_nil]; done) | (rw [List.append_nil]; exact List.Perm.refl _)) q248 q249 q113 q250 rfl ⟨by decide, by decide, rfl⟩ ⟨Nat.le_of_ble_eq_true rfl, Nat.le_of_ble_eq_true rfl⟩ ⟨by omega, by omega⟩ (Nat.le_of_ble_eq_true rfl) dJ2_init_1 rfl (fun σ' ys' hh => z_app0 ?_)
  subst hh
  refine z_iload_n X 1 dJ2_init_4 rfl ?_
  refine z_if_le X 19 dJ2_init_5 (by decide) ⟨by decide, by decide⟩ (fun q => absurd q (by decide)) (fun _ => ?_)
  refine z_aload_n X 0 dJ2_init_8 rfl ?_
  refine z_iload_n X 1 dJ2_init_9 rfl ?_
  refine zx_newq (t0 := 5) (N' := 5) X K q255 X.hNw.2.2 (by rw [hY]; rfl) rfl (by decide) ⟨by omega, by omega⟩ dJ2_init_10 (fun q0 => z_front ?_)
  refine zx_put (C := RJ2) (T := TJ2) (N0 := 3) (ref := RJ2) (ty := .array (.object "java/lang/Object")) X K in_J2 tyJ2 tyJ2_ok nmJ2 1 rfl (by rw [hT]; rfl) 1 (by decide) q259 (fun _ h => h) rfl (by decide +kernel) rfl rfl (Nat.le_of_ble_eq_true rfl) dJ2_init_13 ?_
  refine z_goto X (tgt := 60) dJ2_init_16 (by decide) ?_
  exact R _ _ _ _ _ _ dJ2_init_60 (by omega) (by omega) ⟨_, rfl⟩
theorem ji_X2_init_X2 {l : Launch} {Θ : ZTh} {ds : Nat → ClassId} {δ : Nat × Nat} {σ : ZS} {tl : va_W} (hT : zt_cl Θ = (RX13, TX13, 61) :: clC) (hY : zt_ty Θ = ty6 ds) (o : Nat) : ZDV l (zR Θ) (ds 5) δ yX2_init cX2_init 1 1 24 2 38160 [.ref o] σ ((o, .inr (3, [.null, .null, .int (iz 0), .int (iz 0), .int (iz 0), .int (iz 0), .null])) :: tl) (fun _ ys => ∃ q0 q1 : Nat, ys = jNu (ds 1) q1 20736 (fun _ => 0) :: jNu (ds 0) q0 17424 (fun _ => 0) :: (o, .inr (3, [.ref q0, .ref q1, .int (iz 0), .int (iz 0), .int (iz 0), .int (iz 0), .null])) :: tl) := by
  refine ZDV.ofI (by decide) (Nat.le_of_ble_eq_true rfl) (fun Γ X K E hn R => ?_)
  have hT : zt_cl (zR Θ) = (RX13, TX13, 61) :: clC := hT
  have hY : zt_ty (zR Θ) = ty6 ds := hY
  refine z_aload_n X 0 dX2_init_0 rfl ?_
  refine z_objInit X q152 (Nat.le_of_ble_eq_true rfl) (Nat.le_of_ble_eq_true rfl) dX2_init_1 ?_
  refine z_aload_n X 0 dX2_init_4 rfl ?_
  refine z_sipush X 17424 dX2_init_5 rfl ?_
  refine zx_newI (t0 := 0) (N' := 17424) X K (by rw [hY]; rfl) rfl (by decide) ⟨by omega, by omega⟩ dX2_init_8 (fun q0 => ?_)
  refine zx_putF (C := RX2) (T := TX2) (N0 := 7) (ref := RX2) (ty := .array .int) X K in_X2 tyX2 tyX2_ok nmX2 1 rfl (by rw [hT]; rfl) 0 (by decide) q153 (fun _ h => h) rfl hn rfl (by decide +kernel) rfl rfl (Nat.le_of_ble_eq_true rfl) dX2_init_10 ?_
  refine z_aload_n X 0 dX2_init_13 rfl ?_
  refine z_sipush X 20736 dX2_init_14 rfl ?_
  refine zx_newZ (t0 := 1) (N' := 20736) X K (by rw [hY]; rfl) rfl (by decide) ⟨by omega, by omega⟩ dX2_init_17 (fun q1 => ?_)
  refine zx_putF (C := RX2) (T := TX2) (N0 := 7) (ref := RX2) (ty := .array .boolean) X K in_X2 tyX2 tyX2_ok nmX2 2 rfl (by rw [hT]; rfl) 1 (by decide) q155 (fun _ h => h) rfl hn rfl (by decide +kernel) rfl rfl (Nat.le_of_ble_eq_true rfl) dX2_init_19 ?_
  exact R _ _ _ _ _ _ dX2_init_22 (by omega) (by omega) ⟨_, _, rfl⟩
theorem ji_X4_init_X4 {l : Launch} {Θ : ZTh} {ds : Nat → ClassId} {δ : Nat × Nat} {σ : ZS} {tl : va_W} (hT : zt_cl Θ = (RX13, TX13, 61) :: clC) (hY : zt_ty Θ = ty6 ds) (o : Nat) : ZDV l (zR Θ) (ds 5) δ yX4_init cX4_init 1 1 24 2 5378 [.ref o] σ ((o, .inr (5, [.null, .null, .int (iz 0), .int (iz 0), .int (iz 0)])) :: tl) (fun _ ys => ∃ q0 q1 : Nat, ys = jNu (ds 2) q1 3200 (fun _ => 0) :: jNu (ds 0) q0 2178 (fun _ => 0) :: (o, .inr (5, [.ref q0, .ref q1, .int (iz 0), .int (iz 0), .int (iz 0)])) :: tl) := by
  refine ZDV.ofI (by decide) (Nat.le_of_ble_eq_true rfl) (fun Γ X K E hn R => ?_)
  have hT : zt_cl (zR Θ) = (RX13, TX13, 61) :: clC := hT
  have hY : zt_ty (zR Θ) = ty6 ds := hY
  refine z_aload_n X 0 dX4_init_0 rfl ?_
  refine z_objInit X q219 (Nat.le_of_ble_eq_true rfl) (Nat.le_of_ble_eq_true rfl) dX4_init_1 ?_
  refine z_aload_n X 0 dX4_init_4 rfl ?_
  refine z_sipush X 2178 dX4_init_5 rfl ?_
  refine zx_newI (t0 := 0) (N' := 2178) X K (by rw [hY]; rfl) rfl (by decide) ⟨by omega, by omega⟩ dX4_init_8 (fun q0 => ?_)
  refine zx_putF (C := RX4) (T := TX4) (N0 := 5) (ref := RX4) (ty := .array .int) X K in_X4 tyX4 tyX4_ok nmX4 1 rfl (by rw [hT]; rfl) 0 (by decide) q220 (fun _ h => h) rfl hn rfl (by decide +kernel) rfl rfl (Nat.le_of_ble_eq_true rfl) dX4_init_10 ?_
  refine z_aload_n X 0 dX4_init_13 rfl ?_
  refine z_sipush X 3200 dX4_init_14 rfl ?_
  refine zx_newB (t0 := 2) (N' := 3200) X K (by rw [hY]; rfl) rfl (by decide) ⟨by omega, by omega⟩ dX4_init_17 (fun q1 => ?_)
  refine zx_putF (C := RX4) (T := TX4) (N0 := 5) (ref := RX4) (ty := .array .byte) X K in_X4 tyX4 tyX4_ok nmX4 2 rfl (by rw [hT]; rfl) 1 (by decide) q222 (fun _ h => h) rfl hn rfl (by decide +kernel) rfl rfl (Nat.le_of_ble_eq_true rfl) dX4_init_19 ?_
  exact R _ _ _ _ _ _ dX4_init_22 (by omega) (by omega) ⟨_, _, rfl⟩
theorem ji_X6_init_X8 {l : Launch} {Θ : ZTh} {ds : Nat → ClassId} {δ : Nat × Nat} {σ : ZS} {tl : va_W} (hT : zt_cl Θ = (RX13, TX13, 61) :: clC) (hY : zt_ty Θ = ty6 ds) (o : Nat) (a0 : Int) : ZDV l (zR Θ) (ds 5) δ yX6_init cX6_init 2 1 24 0 0 [.ref o, .int (iz a0)] σ ((o, .inr (7, [.null, .int (iz 0), .int (iz 0), .int (iz 0), .int (iz 0), .int (iz 0), .null])) :: tl) (fun _ ys => ys = (o, .inr (7, [.null, .int (iz 0), .int (iz a0), .int (iz 0), .int (iz 0), .int (iz 0), .null])) :: tl) := by
  refine ZDV.ofI (by decide) (Nat.le_of_ble_eq_true rfl) (fun Γ X K E hn R => ?_)
  have hT : zt_cl (zR Θ) = (RX13, TX13, 61) :: clC := hT
  have hY : zt_ty (zR Θ) = ty6 ds := hY
  refine z_aload_n X 0 dX6_init_0 rfl ?_
  refine z_objInit X q345 (Nat.le_of_ble_eq_true rfl) (Nat.le_of_ble_eq_true rfl) dX6_init_1 ?_
  refine z_aload_n X 0 dX6_init_4 rfl ?_
  refine z_iload_n X 1 dX6_init_5 rfl ?_
  refine zx_putF (C := RX8) (T := TX8) (N0 := 7) (ref := RX6) (ty := .int) X K in_X8 tyX8 tyX8_ok nmX8 0 rfl (by rw [hT]; rfl) 2 (by decide) q352 (fun _ h => h) rfl hn rfl (by decide +kernel) rfl rfl (Nat.le_of_ble_eq_true rfl) dX6_init_6 ?_
  exact R _ _ _ _ _ _ dX6_init_9 (by omega) (by omega) rfl
theorem ji_X6_init_X9 {l : Launch} {Θ : ZTh} {ds : Nat → ClassId} {δ : Nat × Nat} {σ : ZS} {tl : va_W} (hT : zt_cl Θ = (RX13, TX13, 61) :: clC) (hY : zt_ty Θ = ty6 ds) (o : Nat) (a0 : Int) : ZDV l (zR Θ) (ds 5) δ yX6_init cX6_init 2 1 24 0 0 [.ref o, .int (iz a0)] σ ((o, .inr (8, [.null, .int (iz 0), .int (iz 0), .null])) :: tl) (fun _ ys => ys = (o, .inr (8, [.null, .int (iz 0), .int (iz a0), .null])) :: tl) := by
  refine ZDV.ofI (by decide) (Nat.le_of_ble_eq_true rfl) (fun Γ X K E hn R => ?_)
  have hT : zt_cl (zR Θ) = (RX13, TX13, 61) :: clC := hT
  have hY : zt_ty (zR Θ) = ty6 ds := hY
  refine z_aload_n X 0 dX6_init_0 rfl ?_
  refine z_objInit X q345 (Nat.le_of_ble_eq_true rfl) (Nat.le_of_ble_eq_true rfl) dX6_init_1 ?_
  refine z_aload_n X 0 dX6_init_4 rfl ?_
  refine z_iload_n X 1 dX6_init_5 rfl ?_
  refine zx_putF (C := RX9) (T := TX9) (N0 := 4) (ref := RX6) (ty := .int) X K in_X9 tyX9 tyX9_ok nmX9 0 rfl (by rw [hT]; rfl) 2 (by decide) q352 (fun _ h => h) rfl hn rfl (by decide +kernel) rfl rfl (Nat.le_of_ble_eq_true rfl) dX6_init_6 ?_
  exact R _ _ _ _ _ _ dX6_init_9 (by omega) (by omega) rfl
theorem ji_X6_init_X10 {l : Launch} {Θ : ZTh} {ds : Nat → ClassId} {δ : Nat × Nat} {σ : ZS} {tl : va_W} (hT : zt_cl Θ = (RX13, TX13, 61) :: clC) (hY : zt_ty Θ = ty6 ds) (o : Nat) (a0 : Int) : ZDV l (zR Θ) (ds 5) δ yX6_init cX6_init 2 1 24 0 0 [.ref o, .int (iz a0)] σ ((o, .inr (9, [.int (iz 0), .null, .int (iz 0), .int (iz 0)])) :: tl) (fun _ ys => ys = (o, .inr (9, [.int (iz a0), .null, .int (iz 0), .int (iz 0)])) :: tl) := by
  refine ZDV.ofI (by decide) (Nat.le_of_ble_eq_true rfl) (fun Γ X K E hn R => ?_)
  have hT : zt_cl (zR Θ) = (RX13, TX13, 61) :: clC := hT
  have hY : zt_ty (zR Θ) = ty6 ds := hY
  refine z_aload_n X 0 dX6_init_0 rfl ?_
  refine z_objInit X q345 (Nat.le_of_ble_eq_true rfl) (Nat.le_of_ble_eq_true rfl) dX6_init_1 ?_
  refine z_aload_n X 0 dX6_init_4 rfl ?_
  refine z_iload_n X 1 dX6_init_5 rfl ?_
  refine zx_putF (C := RX10) (T := TX10) (N0 := 4) (ref := RX6) (ty := .int) X K in_X10 tyX10 tyX10_ok nmX10 0 rfl (by rw [hT]; rfl) 0 (by decide) q352 (fun _ h => h) rfl hn rfl (by decide +kernel) rfl rfl (Nat.le_of_ble_eq_true rfl) dX6_init_6 ?_
  exact R _ _ _ _ _ _ dX6_init_9 (by omega) (by omega) rfl
theorem ji_X6_init_X11 {l : Launch} {Θ : ZTh} {ds : Nat → ClassId} {δ : Nat × Nat} {σ : ZS} {tl : va_W} (hT : zt_cl Θ = (RX13, TX13, 61) :: clC) (hY : zt_ty Θ = ty6 ds) (o : Nat) (a0 : Int) : ZDV l (zR Θ) (ds 5) δ yX6_init cX6_init 2 1 24 0 0 [.ref o, .int (iz a0)] σ ((o, .inr (10, [.int (iz 0), .int (iz 0)])) :: tl) (fun _ ys => ys = (o, .inr (10, [.int (iz a0), .int (iz 0)])) :: tl) := by
  refine ZDV.ofI (by decide) (Nat.le_of_ble_eq_true rfl) (fun Γ X K E hn R => ?_)
  have hT : zt_cl (zR Θ) = (RX13, TX13, 61) :: clC := hT
  have hY : zt_ty (zR Θ) = ty6 ds := hY
  refine z_aload_n X 0 dX6_init_0 rfl ?_
  refine z_objInit X q345 (Nat.le_of_ble_eq_true rfl) (Nat.le_of_ble_eq_true rfl) dX6_init_1 ?_
  refine z_aload_n X 0 dX6_init_4 rfl ?_
  refine z_iload_n X 1 dX6_init_5 rfl ?_
  refine zx_putF (C := RX11) (T := TX11) (N0 := 2) (ref := RX6) (ty := .int) X K in_X11 tyX11 tyX11_ok nmX11 0 rfl (by rw [hT]; rfl) 0 (by decide) q352 (fun _ h => h) rfl hn rfl (by decide +kernel) rfl rfl (Nat.le_of_ble_eq_true rfl) dX6_init_6 ?_
  exact R _ _ _ _ _ _ dX6_init_9 (by omega) (by omega) rfl
theorem ji_X7_init_X8 {l : Launch} {Θ : ZTh} {ds : Nat → ClassId} {δ : Nat × Nat} {σ : ZS} {tl : va_W} (hT : zt_cl Θ = (RX13, TX13, 61) :: clC) (hY : zt_ty Θ = ty6 ds) (o : Nat) (a0 : Int) : ZDV l (zR Θ) (ds 5) δ yX7_init cX7_init 2 2 45 1 12804 [.ref o, .int (iz a0)] σ ((o, .inr (7, [.null, .int (iz 0), .int (iz 0), .int (iz 0), .int (iz 0), .int (iz 0), .null])) :: tl) (fun _ ys => ∃ q0 : Nat, ys = jNu (ds 0) q0 12804 (fun _ => 0) :: (o, .inr (7, [.ref q0, .int (iz 0), .int (iz a0), .int (iz 0), .int (iz 0), .int (iz 0), .null])) :: tl) := by
  refine ZDV.ofI (by decide) (Nat.le_of_ble_eq_true rfl) (fun Γ X K E hn R => ?_)
  have hT : zt_cl (zR Θ) = (RX13, TX13, 61) :: clC := hT
  have hY : zt_ty (zR Θ) = ty6 ds := hY
  refine z_aload_n X 0 dX7_init_0 rfl ?_
  refine z_iload_n X 1 dX7_init_1 rfl ?_
  refine zd_rU (σR := σ) X K E (ji_X6_init_X8 (Θ := zR Θ) (tl := tl) hT hY o a0) [] (by first | (rw [List.append_nil]; done) | (rw [List.append_nil]; exact List.Perm.refl _)) q342 q343 q116 q344 rfl ⟨by decide, by decide, rfl⟩ ⟨Nat.le_of_ble_eq_true rfl, Nat.le_of_ble_eq_true rfl⟩ ⟨by omega, by omega⟩ (Nat.le_of_ble_eq_true rfl) dX7_init_2 rfl (fun σ' ys' hh => z_app0 ?_)
  subst hh
  refine z_aload_n X 0 dX7_init_5 rfl ?_
  refine z_sipush X 12804 dX7_init_6 rfl ?_
  refine zx_newI (t0 := 0) (N' := 12804) X K (by rw [hY]; rfl) rfl (by decide) ⟨by omega, by omega⟩ dX7_init_9 (fun q0 => ?_)
  refine zx_putF (C := RX8) (T := TX8) (N0 := 7) (ref := RX7) (ty := .array .int) X K in_X8 tyX8 tyX8_ok nmX8 1 rfl (by rw [hT]; rfl) 0 (by decide) q350 (fun _ h => h) rfl hn rfl (by decide +kernel) rfl rfl (Nat.le_of_ble_eq_true rfl) dX7_init_11 ?_
  exact R _ _ _ _ _ _ dX7_init_14 (by omega) (by omega) ⟨_, rfl⟩
theorem ji_X7_init_X9 {l : Launch} {Θ : ZTh} {ds : Nat → ClassId} {δ : Nat × Nat} {σ : ZS} {tl : va_W} (hT : zt_cl Θ = (RX13, TX13, 61) :: clC) (hY : zt_ty Θ = ty6 ds) (o : Nat) (a0 : Int) : ZDV l (zR Θ) (ds 5) δ yX7_init cX7_init 2 2 45 1 12804 [.ref o, .int (iz a0)] σ ((o, .inr (8, [.null, .int (iz 0), .int (iz 0), .null])) :: tl) (fun _ ys => ∃ q0 : Nat, ys = jNu (ds 0) q0 12804 (fun _ => 0) :: (o, .inr (8, [.ref q0, .int (iz 0), .int (iz a0), .null])) :: tl) := by
  refine ZDV.ofI (by decide) (Nat.le_of_ble_eq_true rfl) (fun Γ X K E hn R => ?_)
  have hT : zt_cl (zR Θ) = (RX13, TX13, 61) :: clC := hT
  have hY : zt_ty (zR Θ) = ty6 ds := hY
  refine z_aload_n X 0 dX7_init_0 rfl ?_
  refine z_iload_n X 1 dX7_init_1 rfl ?_
  refine zd_rU (σR := σ) X K E (ji_X6_init_X9 (Θ := zR Θ) (tl := tl) hT hY o a0) [] (by first | (rw [List.append_nil]; done) | (rw [List.append_nil]; exact List.Perm.refl _)) q342 q343 q116 q344 rfl ⟨by decide, by decide, rfl⟩ ⟨Nat.le_of_ble_eq_true rfl, Nat.le_of_ble_eq_true rfl⟩ ⟨by omega, by omega⟩ (Nat.le_of_ble_eq_true rfl) dX7_init_2 rfl (fun σ' ys' hh => z_app0 ?_)
  subst hh
  refine z_aload_n X 0 dX7_init_5 rfl ?_
  refine z_sipush X 12804 dX7_init_6 rfl ?_
  refine zx_newI (t0 := 0) (N' := 12804) X K (by rw [hY]; rfl) rfl (by decide) ⟨by omega, by omega⟩ dX7_init_9 (fun q0 => ?_)
  refine zx_putF (C := RX9) (T := TX9) (N0 := 4) (ref := RX7) (ty := .array .int) X K in_X9 tyX9 tyX9_ok nmX9 1 rfl (by rw [hT]; rfl) 0 (by decide) q350 (fun _ h => h) rfl hn rfl (by decide +kernel) rfl rfl (Nat.le_of_ble_eq_true rfl) dX7_init_11 ?_
  exact R _ _ _ _ _ _ dX7_init_14 (by omega) (by omega) ⟨_, rfl⟩
theorem ji_X8_init_X8 {l : Launch} {Θ : ZTh} {ds : Nat → ClassId} {δ : Nat × Nat} {σ : ZS} {tl : va_W} (hT : zt_cl Θ = (RX13, TX13, 61) :: clC) (hY : zt_ty Θ = ty6 ds) (o : Nat) (a0 : Int) (a1 : Int) (hb : a1 = 0 ∨ a1 = 1) : ZDV l (zR Θ) (ds 5) δ yX8_init cX8_init 3 3 66 2 16005 [.ref o, .int (iz a0), .int (iz a1)] σ ((o, .inr (7, [.null, .int (iz 0), .int (iz 0), .int (iz 0), .int (iz 0), .int (iz 0), .null])) :: tl) (fun _ ys => ∃ q0 q1 : Nat, ys = jNu (ds 0) q1 3201 (fun _ => 0) :: jNu (ds 0) q0 12804 (fun _ => 0) :: (o, .inr (7, [.ref q0, .int (iz 0), .int (iz a0), .int (iz a1), .int (iz 0), .int (iz 0), .ref q1])) :: tl) := by
  refine ZDV.ofI (by decide) (Nat.le_of_ble_eq_true rfl) (fun Γ X K E hn R => ?_)
  have hT : zt_cl (zR Θ) = (RX13, TX13, 61) :: clC := hT
  have hY : zt_ty (zR Θ) = ty6 ds := hY
  refine z_aload_n X 0 dX8_init_0 rfl ?_
  refine z_iload_n X 1 dX8_init_1 rfl ?_
  refine zd_rU (σR := σ) X K E (ji_X7_init_X8 (Θ := zR Θ) (tl := tl) hT hY o a0) [] (by first | (rw [List.append_nil]; done) | (rw [List.append_nil]; exact List.Perm.refl _)) q339 q340 q117 q341 rfl ⟨by decide, by decide, rfl⟩ ⟨Nat.le_of_ble_eq_true rfl, Nat.le_of_ble_eq_true rfl⟩ ⟨by omega, by omega⟩ (Nat.le_of_ble_eq_true rfl) dX8_init_2 rfl (fun σ' ys' hh => z_app0 ?_)
  obtain ⟨q0, rfl⟩ := hh
  refine z_aload_n X 0 dX8_init_5 rfl ?_
  refine z_sipush X 3201 dX8_init_6 rfl ?_
  refine zx_newI (t0 := 0) (N' := 3201) X K (by rw [hY]; rfl) rfl (by decide) ⟨by omega, by omega⟩ dX8_init_9 (fun q1 => ?_)
  refine zx_putF (C := RX8) (T := TX8) (N0 := 7) (ref := RX8) (ty := .array .int) X K in_X8 tyX8 tyX8_ok nmX8 2 rfl (by rw [hT]; rfl) 6 (by decide) q349 (fun _ h => h) rfl hn rfl (by decide +kernel) rfl rfl (Nat.le_of_ble_eq_true rfl) dX8_init_11 ?_
  refine z_aload_n X 0 dX8_init_14 rfl ?_
  refine z_iload_n X 2 dX8_init_15 rfl ?_
  refine zx_putF (C := RX8) (T := TX8) (N0 := 7) (ref := RX8) (ty := .boolean) X K in_X8 tyX8 tyX8_ok nmX8 2 rfl (by rw [hT]; rfl) 3 (by decide) q346 (fun _ h => h) rfl hn rfl (by decide +kernel) (z_nb hb) (z_fitb hb) (Nat.le_of_ble_eq_true rfl) dX8_init_16 ?_
  exact R _ _ _ _ _ _ dX8_init_19 (by omega) (by omega) ⟨_, _, rfl⟩
theorem ji_X9_init_X9 {l : Launch} {Θ : ZTh} {ds : Nat → ClassId} {δ : Nat × Nat} {σ : ZS} {tl : va_W} (hT : zt_cl Θ = (RX13, TX13, 61) :: clC) (hY : zt_ty Θ = ty6 ds) (o : Nat) : ZDV l (zR Θ) (ds 5) δ yX9_init cX9_init 1 3 66 2 16005 [.ref o] σ ((o, .inr (8, [.null, .int (iz 0), .int (iz 0), .null])) :: tl) (fun _ ys => ∃ q0 q1 : Nat, ys = jNu (ds 0) q1 3201 (fun _ => 0) :: jNu (ds 0) q0 12804 (fun _ => 0) :: (o, .inr (8, [.ref q0, .int (iz 0), .int (iz 238), .ref q1])) :: tl) := by
  refine ZDV.ofI (by decide) (Nat.le_of_ble_eq_true rfl) (fun Γ X K E hn R => ?_)
  have hT : zt_cl (zR Θ) = (RX13, TX13, 61) :: clC := hT
  have hY : zt_ty (zR Θ) = ty6 ds := hY
  refine z_aload_n X 0 dX9_init_0 rfl ?_
  refine z_sipush X 238 dX9_init_1 rfl ?_
  refine zd_rU (σR := σ) X K E (ji_X7_init_X9 (Θ := zR Θ) (tl := tl) hT hY o 238) [] (by first | (rw [List.append_nil]; done) | (rw [List.append_nil]; exact List.Perm.refl _)) q436 q340 q117 q341 rfl ⟨by decide, by decide, rfl⟩ ⟨Nat.le_of_ble_eq_true rfl, Nat.le_of_ble_eq_true rfl⟩ ⟨by omega, by omega⟩ (Nat.le_of_ble_eq_true rfl) dX9_init_4 rfl (fun σ' ys' hh => z_app0 ?_)
  obtain ⟨q0, rfl⟩ := hh
  refine z_aload_n X 0 dX9_init_7 rfl ?_
  refine z_sipush X 3201 dX9_init_8 rfl ?_
  refine zx_newI (t0 := 0) (N' := 3201) X K (by rw [hY]; rfl) rfl (by decide) ⟨by omega, by omega⟩ dX9_init_11 (fun q1 => ?_)
  refine zx_putF (C := RX9) (T := TX9) (N0 := 4) (ref := RX9) (ty := .array .int) X K in_X9 tyX9 tyX9_ok nmX9 2 rfl (by rw [hT]; rfl) 3 (by decide) q437 (fun _ h => h) rfl hn rfl (by decide +kernel) rfl rfl (Nat.le_of_ble_eq_true rfl) dX9_init_13 ?_
  exact R _ _ _ _ _ _ dX9_init_16 (by omega) (by omega) ⟨_, _, rfl⟩
theorem ji_X10_init_X10 {l : Launch} {Θ : ZTh} {ds : Nat → ClassId} {δ : Nat × Nat} {σ : ZS} {tl : va_W} (hT : zt_cl Θ = (RX13, TX13, 61) :: clC) (hY : zt_ty Θ = ty6 ds) (o : Nat) : ZDV l (zR Θ) (ds 5) δ yX10_init cX10_init 1 2 45 1 3201 [.ref o] σ ((o, .inr (9, [.int (iz 0), .null, .int (iz 0), .int (iz 0)])) :: tl) (fun _ ys => ∃ q0 : Nat, ys = jNu (ds 0) q0 3201 (fun _ => 0) :: (o, .inr (9, [.int (iz 240), .ref q0, .int (iz 0), .int (iz 0)])) :: tl) := by
  refine ZDV.ofI (by decide) (Nat.le_of_ble_eq_true rfl) (fun Γ X K E hn R => ?_)
  have hT : zt_cl (zR Θ) = (RX13, TX13, 61) :: clC := hT
  have hY : zt_ty (zR Θ) = ty6 ds := hY
  refine z_aload_n X 0 dX10_init_0 rfl ?_
  refine z_sipush X 240 dX10_init_1 rfl ?_
  refine zd_rU (σR := σ) X K E (ji_X6_init_X10 (Θ := zR Θ) (tl := tl) hT hY o 240) [] (by first | (rw [List.append_nil]; done) | (rw [List.append_nil]; exact List.Perm.refl _)) q449 q343 q116 q344 rfl ⟨by decide, by decide, rfl⟩ ⟨Nat.le_of_ble_eq_true rfl, Nat.le_of_ble_eq_true rfl⟩ ⟨by omega, by omega⟩ (Nat.le_of_ble_eq_true rfl) dX10_init_4 rfl (fun σ' ys' hh => z_app0 ?_)
  subst hh
  refine z_aload_n X 0 dX10_init_7 rfl ?_
  refine z_sipush X 3201 dX10_init_8 rfl ?_
  refine zx_newI (t0 := 0) (N' := 3201) X K (by rw [hY]; rfl) rfl (by decide) ⟨by omega, by omega⟩ dX10_init_11 (fun q0 => ?_)
  refine zx_putF (C := RX10) (T := TX10) (N0 := 4) (ref := RX10) (ty := .array .int) X K in_X10 tyX10 tyX10_ok nmX10 1 rfl (by rw [hT]; rfl) 1 (by decide) q450 (fun _ h => h) rfl hn rfl (by decide +kernel) rfl rfl (Nat.le_of_ble_eq_true rfl) dX10_init_13 ?_
  exact R _ _ _ _ _ _ dX10_init_16 (by omega) (by omega) ⟨_, rfl⟩
theorem ji_X11_init_X11 {l : Launch} {Θ : ZTh} {ds : Nat → ClassId} {δ : Nat × Nat} {σ : ZS} {tl : va_W} (hT : zt_cl Θ = (RX13, TX13, 61) :: clC) (hY : zt_ty Θ = ty6 ds) (o : Nat) : ZDV l (zR Θ) (ds 5) δ yX11_init cX11_init 1 2 45 0 0 [.ref o] σ ((o, .inr (10, [.int (iz 0), .int (iz 0)])) :: tl) (fun _ ys => ys = (o, .inr (10, [.int (iz 231), .int (iz 0)])) :: tl) := by
  refine ZDV.ofI (by decide) (Nat.le_of_ble_eq_true rfl) (fun Γ X K E hn R => ?_)
  have hT : zt_cl (zR Θ) = (RX13, TX13, 61) :: clC := hT
  have hY : zt_ty (zR Θ) = ty6 ds := hY
  refine z_aload_n X 0 dX11_init_0 rfl ?_
  refine z_sipush X 231 dX11_init_1 rfl ?_
  refine zd_rU (σR := σ) X K E (ji_X6_init_X11 (Θ := zR Θ) (tl := tl) hT hY o 231) [] (by first | (rw [List.append_nil]; done) | (rw [List.append_nil]; exact List.Perm.refl _)) q466 q343 q116 q344 rfl ⟨by decide, by decide, rfl⟩ ⟨Nat.le_of_ble_eq_true rfl, Nat.le_of_ble_eq_true rfl⟩ ⟨by omega, by omega⟩ (Nat.le_of_ble_eq_true rfl) dX11_init_4 rfl (fun σ' ys' hh => z_app0 ?_)
  subst hh
  exact R _ _ _ _ _ _ dX11_init_7 (by omega) (by omega) rfl
theorem ji_X12_init_X12 {l : Launch} {Θ : ZTh} {ds : Nat → ClassId} {δ : Nat × Nat} {σ : ZS} {tl : va_W} (hT : zt_cl Θ = (RX13, TX13, 61) :: clC) (hY : zt_ty Θ = ty6 ds) (o : Nat) (b0 : Nat) (b1 : Nat) : ZDV l (zR Θ) (ds 5) δ yX12_init cX12_init 3 4 84 6 16007 [.ref o, .ref b0, .ref b1] σ ((o, .inr (11, [.null, .null, .null, .int (iz 0), .null, .null, .null, .null, .null, .int (iz 0), .int (iz 0), .int (iz 0)])) :: tl) (fun _ ys => ∃ q0 q1 q2 q3 q4 q5 : Nat, ys = (q5, .inr (6, [.int (iz 0), .ref δ.1, .int (iz 0)])) :: jNu (ds 1) q4 3201 (fun _ => 0) :: jNu (ds 0) q3 3201 (fun _ => 0) :: jNu (ds 0) q2 3201 (fun _ => 0) :: jNu (ds 0) q1 3201 (fun _ => 0) :: jNu (ds 2) q0 3200 (fun _ => 0) :: (o, .inr (11, [.ref b0, .ref b1, .ref q0, .int (iz 0), .ref q1, .ref q2, .ref q3, .ref q4, .ref q5, .int (iz 0), .int (iz 0), .int (iz 0)])) :: tl) := by
  refine ZDV.ofI (by decide) (Nat.le_of_ble_eq_true rfl) (fun Γ X K E hn R => ?_)
  have hT : zt_cl (zR Θ) = (RX13, TX13, 61) :: clC := hT
  have hY : zt_ty (zR Θ) = ty6 ds := hY
  refine z_aload_n X 0 dX12_init_0 rfl ?_
  refine z_objInit X q477 (Nat.le_of_ble_eq_true rfl) (Nat.le_of_ble_eq_true rfl) dX12_init_1 ?_
  refine z_aload_n X 0 dX12_init_4 rfl ?_
  refine z_sipush X 3200 dX12_init_5 rfl ?_
  refine zx_newB (t0 := 2) (N' := 3200) X K (by rw [hY]; rfl) rfl (by decide) ⟨by omega, by omega⟩ dX12_init_8 (fun q0 => ?_)
  refine zx_putF (C := RX12) (T := TX12) (N0 := 12) (ref := RX12) (ty := .array .byte) X K in_X12 tyX12 tyX12_ok nmX12 1 rfl (by rw [hT]; rfl) 2 (by decide) q482 (fun _ h => h) rfl hn rfl (by decide +kernel) rfl rfl (Nat.le_of_ble_eq_true rfl) dX12_init_10 ?_
  refine z_aload_n X 0 dX12_init_13 rfl ?_
  refine z_sipush X 3201 dX12_init_14 rfl ?_
  refine zx_newI (t0 := 0) (N' := 3201) X K (by rw [hY]; rfl) rfl (by decide) ⟨by omega, by omega⟩ dX12_init_17 (fun q1 => ?_)
  refine zx_putF (C := RX12) (T := TX12) (N0 := 12) (ref := RX12) (ty := .array .int) X K in_X12 tyX12 tyX12_ok nmX12 2 rfl (by rw [hT]; rfl) 4 (by decide) q484 (fun _ h => h) rfl hn rfl (by decide +kernel) rfl rfl (Nat.le_of_ble_eq_true rfl) dX12_init_19 ?_
  refine z_aload_n X 0 dX12_init_22 rfl ?_
  refine z_sipush X 3201 dX12_init_23 rfl ?_
  refine zx_newI (t0 := 0) (N' := 3201) X K (by rw [hY]; rfl) rfl (by decide) ⟨by omega, by omega⟩ dX12_init_26 (fun q2 => ?_)
  refine zx_putF (C := RX12) (T := TX12) (N0 := 12) (ref := RX12) (ty := .array .int) X K in_X12 tyX12 tyX12_ok nmX12 3 rfl (by rw [hT]; rfl) 5 (by decide) q485 (fun _ h => h) rfl hn rfl (by decide +kernel) rfl rfl (Nat.le_of_ble_eq_true rfl) dX12_init_28 ?_
  refine z_aload_n X 0 dX12_init_31 rfl ?_
  refine z_sipush X 3201 dX12_init_32 rfl ?_
  refine zx_newI (t0 := 0) (N' := 3201) X K (by rw [hY]; rfl) rfl (by decide) ⟨by omega, by omega⟩ dX12_init_35 (fun q3 => ?_)
  refine zx_putF (C := RX12) (T := TX12) (N0 := 12) (ref := RX12) (ty := .array .int) X K in_X12 tyX12 tyX12_ok nmX12 4 rfl (by rw [hT]; rfl) 6 (by decide) q486 (fun _ h => h) rfl hn rfl (by decide +kernel) rfl rfl (Nat.le_of_ble_eq_true rfl) dX12_init_37 ?_
  refine z_aload_n X 0 dX12_init_40 rfl ?_
  refine z_sipush X 3201 dX12_init_41 rfl ?_
  refine zx_newZ (t0 := 1) (N' := 3201) X K (by rw [hY]; rfl) rfl (by decide) ⟨by omega, by omega⟩ dX12_init_44 (fun q4 => ?_)
  refine zx_putF (C := RX12) (T := TX12) (N0 := 12) (ref := RX12) (ty := .array .boolean) X K in_X12 tyX12 tyX12_ok nmX12 5 rfl (by rw [hT]; rfl) 7 (by decide) q487 (fun _ h => h) rfl hn rfl (by decide +kernel) rfl rfl (Nat.le_of_ble_eq_true rfl) dX12_init_46 ?_
  refine z_aload_n X 0 dX12_init_49 rfl ?_
  refine zx_new (ci := 6) (fs := [.int (iz 0), .null, .int (iz 0)]) X K in_J2 tyJ2 tyJ2_ok q478 q244 q114 (by rw [hT]; rfl) (fun j hj => by rcases (show j = 0 ∨ j = 1 ∨ j = 2 by omega) with rfl | rfl | rfl <;> rfl) ⟨by omega, by omega⟩ dX12_init_50 (fun q5 => z_front ?_)
  refine z_dup X dX12_init_53 rfl ?_
  refine zd_rU (σR := σ) X K E (ji_J2_init_2_J2 (Θ := zR Θ) (tl := jNu (ds 1) q4 3201 (fun _ => 0) :: jNu (ds 0) q3 3201 (fun _ => 0) :: jNu (ds 0) q2 3201 (fun _ => 0) :: jNu (ds 0) q1 3201 (fun _ => 0) :: jNu (ds 2) q0 3200 (fun _ => 0) :: (o, .inr (11, [.null, .null, .ref q0, .int (iz 0), .ref q1, .ref q2, .ref q3, .ref q4, .null, .int (iz 0), .int (iz 0), .int (iz 0)])) :: tl) hT hY q5) [] (by first | (rw [List.append_nil]; done) | (rw [List.append_nil]; exact List.Perm.refl _)) q479 q272 q114 q273 rfl ⟨by decide, by decide, rfl⟩ ⟨Nat.le_of_ble_eq_true rfl, Nat.le_of_ble_eq_true rfl⟩ ⟨by omega, by omega⟩ (Nat.le_of_ble_eq_true rfl) dX12_init_54 rfl (fun σ' ys' hh => z_app0 ?_)
  subst hh
  refine zx_putF (C := RX12) (T := TX12) (N0 := 12) (ref := RX12) (ty := .object "java/util/ArrayList") X K in_X12 tyX12 tyX12_ok nmX12 6 rfl (by rw [hT]; rfl) 8 (by decide) q488 (fun _ h => h) rfl hn rfl (by decide +kernel) rfl rfl (Nat.le_of_ble_eq_true rfl) dX12_init_57 ?_
  refine z_aload_n X 0 dX12_init_60 rfl ?_
  refine z_aload_n X 1 dX12_init_61 rfl ?_
  refine zx_putF (C := RX12) (T := TX12) (N0 := 12) (ref := RX12) (ty := .object "java/util/ArrayList") X K in_X12 tyX12 tyX12_ok nmX12 6 rfl (by rw [hT]; rfl) 0 (by decide) q480 (fun _ h => h) rfl hn rfl (by decide +kernel) rfl rfl (Nat.le_of_ble_eq_true rfl) dX12_init_62 ?_
  refine z_aload_n X 0 dX12_init_65 rfl ?_
  refine z_aload_n X 2 dX12_init_66 rfl ?_
  refine zx_putF (C := RX12) (T := TX12) (N0 := 12) (ref := RX12) (ty := .object "MatrixPress$Stream") X K in_X12 tyX12 tyX12_ok nmX12 6 rfl (by rw [hT]; rfl) 1 (by decide) q481 (fun _ h => h) rfl hn rfl (by decide +kernel) rfl rfl (Nat.le_of_ble_eq_true rfl) dX12_init_67 ?_
  exact R _ _ _ _ _ _ dX12_init_70 (by omega) (by omega) ⟨_, _, _, _, _, _, rfl⟩
