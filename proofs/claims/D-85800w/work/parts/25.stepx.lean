/-! STEPX: MatrixPress.step where it throws -/
def zXN : List String := ["java/lang/RuntimeException", "java/lang/Exception"]
theorem xn_good : ∀ w ∈ (vx_at0 "MatrixPress" 221 RJ12 zXN).filter goodWord, w ∈ lw_all := by
  have h : ((vx_at0 "MatrixPress" 221 RJ12 zXN).filter goodWord).all (fun w => lw_all.any (fun v => decide (v = w))) = true := by decide +kernel
  intro w hw
  have h1 := List.all_eq_true.mp h w hw
  obtain ⟨v, hv, e⟩ := List.any_eq_true.mp h1
  rw [← of_decide_eq_true e]
  exact hv
theorem xn_rest : ∀ w ∈ (vx_at0 "MatrixPress" 221 RJ12 zXN).filter (fun w => !goodWord w), w ∈ lw_nest := by
  have h : ((vx_at0 "MatrixPress" 221 RJ12 zXN).filter (fun w => !goodWord w)).all (fun w => lw_nest.any (fun v => decide (v = w))) = true := by decide +kernel
  intro w hw
  have h1 := List.all_eq_true.mp h w hw
  obtain ⟨v, hv, e⟩ := List.any_eq_true.mp h1
  rw [← of_decide_eq_true e]
  exact hv
theorem xn_ot : ∀ w ∈ Cond.classLink "MatrixPress" 219 RJ12 :: Cond.initialized RJ12 :: vx_at0 "MatrixPress" 221 RJ12 zXN, vx_ot w = true := by
  have h : (Cond.classLink "MatrixPress" 219 RJ12 :: Cond.initialized RJ12 :: vx_at0 "MatrixPress" 221 RJ12 zXN).all vx_ot = true := by decide +kernel
  exact fun w hw => List.all_eq_true.mp h w hw
theorem zNw.at {U : State} {args : Array Value} (h : zNw U) : ∀ w ∈ lw_nest, w.before args U = true := by
  intro w hw
  have h1 := h.1 w hw
  have hz := (List.mem_filter.mp hw).2
  have h3 : w.onTables = true := by
    revert hz
    cases w <;> intro h2 <;> first | rfl | (simp [zIsN] at h2)
  exact va_Nw.use h3 h1
theorem mtx_X1_step (l : Launch) (hst : l.stackTraces = false) (D : va_G) (ds : Nat → ClassId) (ad : Nat → Nat) (δ : Nat × Nat) (a0 a1 : Int) (σ : ZS) (d : ZDy) (h0 : InR a0) (h1 : InR a1) (hln : InR (d.2.1.2.2.length : Int)) (hbad : a0 < 0 ∨ (d.2.1.2.2.length : Int) ≤ a0 ∨ a1 < 0 ∨ 3 < a1) (sz : Nat) :
    vx_Met l yX1_step (ws_ yX1_step cX1_step 4 (some .int)) { frames := 6, cells := 1, slots := 6, locals := 90 } (zdPre (ΘC D ds ad) (ds 5) δ sz σ (dyW (ds 5) δ (ad 75) (ad 76) d) [.ref (ad 0), .int (iz a0), .int (iz a1)])
      (va_Qv (fun (_ : Unit) => False) (fun _ _ => True) (va_A (zt_W (ΘC D ds ad) σ (dyW (ds 5) δ (ad 75) (ad 76) d)) sz)) (vx_X (fun (_ : Unit) => True) (fun (E : String) (_ : Unit) (t : State) => E = RJ12 ∧ va_P D (zt_cl (ΘC D ds ad)) (zt_W (ΘC D ds ad) σ (dyW (ds 5) δ (ad 75) (ad 76) d)) t.heap) (va_A (zt_W (ΘC D ds ad) σ (dyW (ds 5) δ (ad 75) (ad 76) d)) sz)) 1 6 (va_A (zt_W (ΘC D ds ad) σ (dyW (ds 5) δ (ad 75) (ad 76) d)) sz) := by
  refine vx_ofW (cc := cX1_step) (maxL := 4) (ret := some .int) (by decide) rfl ?_
  intro p e s m args below meth c s₁ B hml hex hv
  obtain ⟨rfl, hsz, hP, hK, hD0, hNw, hSt, hDe⟩ := hv
  subst hsz
  have hts := atoms_spec (ws := ws_ yX1_step cX1_step 4 (some .int)) B.pre
  have hts : ∀ w ∈ lw_all, w.before _ s = true := fun w h => hts w (List.mem_cons_of_mem _ h)
  have hown : s.vm.findClass yX1_step.cls = some m.cls := findClass_of_methodNamed B.named
  generalize hxs : dyW (ds 5) δ (ad 75) (ad 76) d = xs0 at *
  have hD : va_D (va_A (zt_W (ΘC D ds ad) σ xs0) s.heap.size) (zt_W (ΘC D ds ad) σ xs0) := hD0.self
  have hl := lv_entry ([.ref (ad 0), .int (iz a0), .int (iz a1)]) (n := 4) (Nat.le_of_ble_eq_true rfl)
  rw [lg_entry_eq]
  generalize (lg_sl ([.ref (ad 0), .int (iz a0), .int (iz a1)]) ++ List.replicate (4 - (lg_sl ([.ref (ad 0), .int (iz a0), .int (iz a1)])).length) Slot.unset).toArray = ls at hl ⊢
  have hlk := B.notSynchronized
  have hbx := B.exec
  have hbb := B.bytes
  let Γ : ZG := zMk p l e { frames := 6, cells := 1, slots := 6, locals := 90 } s m ([.ref (ad 0), .int (iz a0), .int (iz a1)] : List Value).toArray below meth c (vx_MQ below (va_Qv (fun (_ : Unit) => False) (fun _ _ => True) (va_A (zt_W (ΘC D ds ad) σ xs0) s.heap.size)) (vx_X (fun (_ : Unit) => True) (fun (E : String) (_ : Unit) (t : State) => E = RJ12 ∧ va_P D (zt_cl (ΘC D ds ad)) (zt_W (ΘC D ds ad) σ xs0) t.heap) (va_A (zt_W (ΘC D ds ad) σ xs0) s.heap.size)) ([.ref (ad 0), .int (iz a0), .int (iz a1)] : List Value).toArray s 1 6 (va_A (zt_W (ΘC D ds ad) σ xs0) s.heap.size)) (va_A (zt_W (ΘC D ds ad) σ xs0) s.heap.size) (ΘC D ds ad) 4
  have X : ZX Γ cX1_step RX1 6 90 := ⟨hbx, hbb, hml, hown, hts, hlk, hK, fun q h => Or.inr h, rfl, rfl, hNw, hSt⟩
  have K : ZCap Γ l (ΘC D ds ad) 4 1 6 := ⟨rfl, rfl, rfl, rfl, rfl⟩
  have hthrow : ∀ lv, Z Γ 0 0 σ xs0 24 lv [] := by
    intro lv H locs ls hP hD hS hv
    refine vx_throw0 (names := zXN) (own := RX1) X.hx X.hb hst X.hown (by decide) (by decide) (X.hts _ q1175) (X.hts _ q135) (vx_hat (fun w hw => X.hts w (xn_good w hw)) xn_rest X.hNw.at) xn_ot X.hSt.1 X.hSt.2 hS (hv.1.trans X.hml.symm) dX1_step_24 dX1_step_27 dX1_step_28 dX1_step_31 (fun x hx => (hex x hx).elim) (Nat.le_of_ble_eq_true rfl) (Nat.le_of_ble_eq_true rfl) (Nat.le_refl _) (Nat.le_refl _) hlk (fun t _ hz hq => ⟨(), trivial, ⟨rfl, fun i q hi => (hP i q hi).kept (hq q.1 (hP i q hi).lt)⟩, Nat.le_trans hS.1 hz, fun q h1 h2 => (hq q (Nat.lt_of_lt_of_le h1 hS.1)).trans (hS.2.1 q h1 h2)⟩) hS.2.2 (Nat.le_refl _) (Nat.le_refl _)
  have goal : Z Γ 0 0 σ xs0 0 (lv_args 0 [.ref (ad 0), .int (iz a0), .int (iz a1)]) [] := by
    refine z_iload_n X 1 dX1_step_0 rfl ?_
    refine z_if_lt X 24 dX1_step_1 (by decide) h0 (fun _ => hthrow _) (fun c1 => ?_)
    refine z_iload_n X 1 dX1_step_4 rfl ?_
    refine z_aload_n X 0 dX1_step_5 rfl ?_
    refine gC_X1_64_X1 X K dX1_step_6 ?_
    subst hxs
    refine z_dySize2 q906 X K rfl (Nat.le_of_ble_eq_true rfl) dX1_step_9 ⟨Nat.zero_le _, Nat.zero_le _⟩ ?_
    refine z_icmp_ge X 24 dX1_step_12 (by decide) h0 hln (fun _ => hthrow _) (fun c2 => ?_)
    refine z_iload_n X 2 dX1_step_15 rfl ?_
    refine z_if_lt X 24 dX1_step_16 (by decide) h1 (fun _ => hthrow _) (fun c3 => ?_)
    refine z_iload_n X 2 dX1_step_19 rfl ?_
    refine z_iconst X 3 dX1_step_20 ?_
    refine z_icmp_le X 32 dX1_step_21 (by decide) h1 ⟨by decide, by decide⟩ (fun c4 => ?_) (fun _ => hthrow _)
    exfalso
    omega
  exact goal s.heap [] ls hP hD va_S.rf hl
