/-! constructors over raw cells; readings; casts -/
theorem ZDV.ofI {l : Launch} {Θ : ZTh} {cA : ClassId} {δ : Nat × Nat} {y : MethodName} {code : ByteArray} {nL : Nat} {fr lo mc ms : Nat} {av : List Value} {σ : ZS} {xs : va_W} {post : ZS → va_W → Prop} (hy : plainName y.cls = true) (hlen : (lg_sl av).length ≤ nL)
    (walk : ∀ (Γ : ZG), ZX Γ code y.cls fr lo → ZCap Γ l Θ nL mc ms → ZDe Γ cA δ → (zg_me Γ).name = y.name → ZDretV Γ code mc ms post → Z Γ 0 0 σ xs 0 (lv_args 0 av) []) : ZDV l Θ cA δ y code nL fr lo mc ms av σ xs post := by
  intro sz
  refine Met.ofW (cc := code) (maxL := nL) (ret := none) hy rfl ?_
  intro p e s m args below meth c s₁ B hml hv
  obtain ⟨rfl, hsz, hP, hK, hD0, hNw, hSt, hDe⟩ := hv
  subst hsz
  have hts := atoms_spec (ws := ws_ y code nL none) B.pre
  have hts : ∀ w ∈ lw_all, w.before _ s = true := fun w h => hts w (List.mem_cons_of_mem _ h)
  have hown : s.vm.findClass y.cls = some m.cls := findClass_of_methodNamed B.named
  have hD : va_D (va_A (zt_W Θ σ xs) s.heap.size) (zt_W Θ σ xs) := hD0.self
  have hl := lv_entry av (n := nL) hlen
  rw [lg_entry_eq]
  generalize (lg_sl av ++ List.replicate (nL - (lg_sl av).length) Slot.unset).toArray = ls at hl ⊢
  have hr := B.returns
  have hlk := B.notSynchronized
  have hbx := B.exec
  have hbb := B.bytes
  let Γ : ZG := zMk p l e { frames := fr, cells := mc, slots := ms, locals := lo } s m av.toArray below meth c (MQ below (va_Qv (fun (q : ZS × va_W) => post q.1 q.2) (zdB Θ (zt_W Θ σ xs) s.heap.size) (va_A (zt_W Θ σ xs) s.heap.size)) av.toArray s mc ms (va_A (zt_W Θ σ xs) s.heap.size)) (va_A (zt_W Θ σ xs) s.heap.size) Θ nL
  have X : ZX Γ code y.cls fr lo := ⟨hbx, hbb, hml, hown, hts, hlk, hK, fun q h => Or.inr h, rfl, rfl, hNw, hSt⟩
  refine walk Γ X ⟨rfl, rfl, rfl, rfl, rfl⟩ hDe (name_of_methodNamed B.named B.method).1 (fun k n pc σ' xs' lv d hk hm hp => ?_) s.heap [] ls hP hD va_S.rf hl
  intro H locs ls' hP' hD' hS' hv'
  refine W.widen hk hm ?_
  exact W.vret hbx hbb hr (fun t ht hW => ⟨⟨(σ', xs'), rfl, hp, by rw [ht]; exact hP', hD'⟩, hS'.F ht⟩) hS'.2.2 d hlk
section ZDU
variable {Γ : ZG} {cc : ByteArray} {own : String} {fr lo : Nat} {k n : Nat} {σ : ZS} {xs : va_W} {pc : Nat} {lv : List (Nat × Value)} {st : List Value} {l : Launch} {Θ : ZTh} {nL mc0 ms0 : Nat} {cA : ClassId} {δ : Nat × Nat}
theorem zd_rU {b index mc ms : Nat} {y : MethodName} {code : ByteArray} {nL1 f1 l1 : Nat} {As : List Value} {ys : va_W} {σR : ZS} {post : ZS → va_W → Prop} (X : ZX Γ cc own fr lo) (K : ZCap Γ l Θ nL mc0 ms0) (E : ZDe Γ cA δ) (hM : ZDV l (zR Θ) cA δ y code nL1 f1 l1 mc ms (.ref b :: As) σR ys post) (r : va_W) (hp : xs.Perm (ys ++ r))
    (h1 : Cond.methodLink own index y ∈ lw_all) (h2 : Cond.instanceMethod y ∈ lw_all) (h3 : Cond.initialized y.cls ∈ lw_all) (h4 : Cond.code y code nL1 none ∈ lw_all) (hy : y.name = "<init>") (hd : y.cls ≠ "java/lang/invoke/MethodHandle" ∧ y.cls ≠ "java/lang/invoke/VarHandle" ∧ (parseMethodDescriptor y.desc).map (fun d => d.parameters.length) = some As.length) (hR : f1 + 1 ≤ fr ∧ 8 + (nL1 + 11) + l1 ≤ lo) (hcs : k + mc ≤ mc0 ∧ n + ms ≤ ms0) (hst : (st.map fun v => v.category).sum ≤ 8) (d : decode cc pc = .ok (.invokespecial index, 3)) {full : List Value} (hfull : full = As.reverse ++ .ref b :: st)
    (h : ∀ (σ' : ZS) (ys' : va_W), post σ' ys' → Z Γ (k + mc) (n + ms) σ (ys' ++ r) (pc + 3) lv st) : Z Γ k n σ xs pc lv full := by
  subst hfull
  obtain ⟨rfl, rfl, -, hc1, hc2⟩ := K
  intro H locs ls hP hD hS hv
  have hp2 : (zt_W (zg_T Γ) σ xs).Perm (zt_W (zR (zg_T Γ)) σR ys ++ zt_W (zg_T Γ) σ r) := zd_raw hp
  have cw := cwI (R := zg_R Γ) (s := zg_s Γ) (args := zg_a Γ) (own := own) (index := index) (y := y) (bytes := code) (maxL := nL1) (rm := { frames := f1, cells := mc, slots := ms, locals := l1 }) (mc := mc) (ms := ms) As.length X.hts (lw_meth h4) rfl rfl rfl (X.hts _ h3) (X.hts _ h1) (X.hts _ h2) hy hd (by rw [X.hfr, X.hlo]; exact hR)
  refine va_callv (va_runI (As := As) (zx_fix X) (hM H.size) cw ⟨zdPre_blind, fun U hU hW => zd_pre X E rfl rfl rfl hp2 hP hD hS hU hW⟩ rfl rfl hv.1 rfl (lv_room hst) d ⟨by rw [hc1]; exact hcs.1, by rw [hc2]; exact hcs.2⟩) hS (fun q _ hq => zd_Ain hD hS X.hA hp2 q hq) (fun q hq => zd_Ain hD hS X.hA hp2 q hq) (fun q t H1 locs1 ht hvm hpo hB hz hkk hS1 => ?_)
  obtain ⟨hP1, hD1⟩ := zd_to (zd_raw' (Θ := zg_T Γ) (σ := σ)) (zd_post (Θ' := zR (zg_T Γ)) (σ' := σR) X rfl rfl hp2 hP hD hS ht hkk hB)
  exact h q.1 q.2 hpo H1 locs1 ls hP1 hD1 hS1 hv
theorem z_objInit (X : ZX Γ cc own fr lo) {index a : Nat} (h1 : Cond.methodLink own index Lib.objectInit ∈ lw_all) (hf : 1 ≤ fr) (hl : (st.map fun v => v.category).sum + 12 ≤ lo) (d : decode cc pc = .ok (.invokespecial index, 3)) (h : Z Γ k n σ xs (pc + 3) lv st) : Z Γ k n σ xs pc lv (.ref a :: st) := fun H locs ls hP hD hS hv => W.objInit X.hx X.hb X.hown (X.hts _ h1) (X.hts _ q143) (X.hts _ q144) (g := F0 (zg_m Γ) pc ls (.ref a :: st)) rfl (by rw [X.hml]; exact hv.1) rfl d (by rw [X.hfr]; exact hf) (by rw [X.hlo]; show 2 * 0 + _ + 12 ≤ lo; omega) (h H locs ls hP hD hS hv)
/-- a reading member over a few raw cells -/
theorem zx_ro {C : String} {index ci b i0 : Nat} {qc : vw_C} {fs : List Value} {ws : va_W} {y : MethodName} {code : ByteArray} {nL1 f1 l1 : Nat} {ret : FieldType} {As : List Value} {v : Value} (X : ZX Γ cc own fr lo) (K : ZCap Γ l Θ nL mc0 ms0) (hM : roMet l y code nL1 ret f1 l1 (.ref b :: As) (zt_D Θ) (zt_cl Θ) (zt_ty Θ) ws v) (hsub : ∀ q ∈ ws, q ∈ xs) (hx : ws[i0]? = some (b, .inr (ci, fs))) (hc : (zt_cl Θ)[ci]? = some qc) (hC : qc.1 = C)
    (hw : GoodIn lw_all (wsV own index C y (ws_ y code nL1 (some ret)))) (hd : y.cls = C ∧ y.cls ≠ "java/lang/invoke/MethodHandle" ∧ y.cls ≠ "java/lang/invoke/VarHandle" ∧ (parseMethodDescriptor y.desc).map (fun d => d.parameters.length) = some As.length) (hR : f1 + 1 ≤ fr ∧ 8 + (nL1 + 11) + l1 ≤ lo) (hcs : k ≤ mc0 ∧ n ≤ ms0) (hst : (st.map fun v => v.category).sum ≤ 8) (d : decode cc pc = .ok (.invokevirtual index, 3)) {full : List Value} (hfull : full = As.reverse ++ .ref b :: st) (h : Z Γ k n σ xs (pc + 3) lv (v :: st)) : Z Γ k n σ xs pc lv full := by
  subst hfull
  obtain ⟨rfl, rfl, -, hc1, hc2⟩ := K
  intro H locs ls hP hD hS hv
  have hP2 : va_P (zt_D (zg_T Γ)) (zt_cl (zg_T Γ)) ws H := vaP_sub (fun q hq => List.mem_append_right _ (hsub q hq)) hP
  have cw : CallW (zg_R Γ) (zg_s Γ) (zg_a Γ) own C index y code nL1 (some ret) (ws_ y code nL1 (some ret)) { frames := f1, cells := 0, slots := 0, locals := l1 } 0 0 As.length := cwV As.length X.hts hw rfl rfl rfl hd (by rw [X.hfr, X.hlo]; exact hR)
  exact ro_call (va_runV (As := As) (zx_fix X) hM cw (ro_preV (As := As) X.hK hP2 hc hx hC) rfl rfl hv.1 rfl (lv_room hst) d ⟨by rw [hc1]; exact hcs.1, by rw [hc2]; exact hcs.2⟩) (h H locs ls hP hD hS hv)
theorem zx_castS {index a ci i : Nat} {nm : String} {T : u_T} {N0 : Nat} {fs : List Value} (X : ZX Γ cc own fr lo) (K : ZCap Γ l Θ nL mc0 ms0) (hl : Cond.classLink own index nm ∈ lw_all) (hx : xs[i]? = some (a, .inr (ci, fs))) (hc : (zt_cl Θ)[ci]? = some (nm, T, N0)) (d : decode cc pc = .ok (.checkcast index, 3)) (h : Z Γ k n σ xs (pc + 3) lv (.ref a :: st)) : Z Γ k n σ xs pc lv (.ref a :: st) := by
  obtain ⟨rfl, rfl, -⟩ := K
  intro H locs ls hP hD hS hv
  exact va_castS X.hx X.hb X.hown (X.hts _ hl) (X.hK.1 ci _ hc).2 (va_recv X.hK hP hc (zx_at hx)) d (h H locs ls hP hD hS hv)
end ZDU
section ZSTEP
variable {l : Launch} {Θ : ZTh} {cA : ClassId} {δ : Nat × Nat} {σ : ZS} {tl : va_W}
theorem jl_step (hc : (zt_cl Θ)[12]? = some (RX14, TX14, 4)) (a : Nat) (s k : Int) : ZDV l (zR Θ) cA δ yX14_init cX14_init 3 1 20 0 0 [.ref a, .int (iz s), .int (iz k)] σ (jSt a (fun _ => 0) :: tl) (fun _ ys => ys = jSt a (fun i => if i = 0 then s else if i = 1 then k else 0) :: tl) := by
  refine ZDV.ofI (by decide) (Nat.le_of_ble_eq_true rfl) (fun Γ X K E hn R => ?_)
  refine z_aload_n X 0 dX14_init_0 rfl ?_
  refine z_objInit X q752 (Nat.le_refl _) (Nat.le_of_ble_eq_true rfl) dX14_init_1 ?_
  refine z_aload_n X 0 dX14_init_4 rfl ?_
  refine z_iload_n X 1 dX14_init_5 rfl ?_
  refine zx_putF (C := RX14) (T := TX14) (N0 := 4) (ref := RX14) (ty := .int) X K in_X14 tyX14 tyX14_ok nmX14 0 rfl hc 0 (by decide) q753 (fun _ h => h) rfl hn rfl (by decide +kernel) rfl rfl (Nat.le_of_ble_eq_true rfl) dX14_init_6 ?_
  refine z_aload_n X 0 dX14_init_9 rfl ?_
  refine z_iload_n X 2 dX14_init_10 rfl ?_
  refine zx_putF (C := RX14) (T := TX14) (N0 := 4) (ref := RX14) (ty := .int) X K in_X14 tyX14 tyX14_ok nmX14 0 rfl hc 1 (by decide) q756 (fun _ h => h) rfl hn rfl (by decide +kernel) rfl rfl (Nat.le_of_ble_eq_true rfl) dX14_init_11 ?_
  exact R _ _ _ _ _ _ dX14_init_14 (Nat.le_refl _) (Nat.le_refl _) rfl
end ZSTEP
