/-! calls: of a method over the whole world, and of one over a part of the raw cells -/
theorem zd_Ain {A : Nat → Prop} {ws ws0 r : va_W} {H0 H : Heap} {locs : List Loc} (hD : va_D A ws) (hS : va_S A H0 H locs) (hA : ∀ q, H0.size ≤ q → A q) (hp : ws.Perm (ws0 ++ r)) : ∀ q, va_A ws0 H.size q → A q := fun q h => by
  rcases vaA_iff.mp h with ⟨e, h⟩ | h
  · exact vaD_mem hD (hp.mem_iff.mpr (List.mem_append_left _ h))
  · exact hA q (Nat.le_trans hS.1 h)
theorem zd_raw {Θ : ZTh} {σ : ZS} {xs ys r : va_W} (hp : xs.Perm (ys ++ r)) : (zt_W Θ σ xs).Perm (ys ++ zt_W Θ σ r) := by
  unfold zt_W
  refine (List.Perm.append_left _ hp).trans ?_
  rw [← List.append_assoc, ← List.append_assoc]
  exact List.Perm.append_right _ List.perm_append_comm
theorem zd_raw' {Θ : ZTh} {σ : ZS} {ys r : va_W} : (ys ++ zt_W Θ σ r).Perm (zt_W Θ σ (ys ++ r)) := (zd_raw (List.Perm.refl _)).symm
theorem zd_to {D : va_G} {cl : List vw_C} {A : Nat → Prop} {H : Heap} {a b : va_W} (hp : a.Perm b) (h : va_P D cl a H ∧ va_D A a) : va_P D cl b H ∧ va_D A b := ⟨vaP_sub (fun q hq => hp.mem_iff.mpr hq) h.1, vaD_sub (r := []) (by rw [List.append_nil]; exact hp) h.2⟩
section ZDC
variable {Γ : ZG} {cc : ByteArray} {own : String} {fr lo : Nat} {k n : Nat} {σ : ZS} {xs : va_W} {pc : Nat} {lv : List (Nat × Value)} {st : List Value} {l : Launch} {Θ : ZTh} {nL mc0 ms0 : Nat} {cA : ClassId} {δ : Nat × Nat}
theorem zd_pre {Θ' : ZTh} {σ' : ZS} {ys r : va_W} {H : Heap} {locs : List Loc} {As : List Value} {U : State} (X : ZX Γ cc own fr lo) (E : ZDe Γ cA δ) (e1 : zt_D Θ' = zt_D (zg_T Γ)) (e2 : zt_cl Θ' = zt_cl (zg_T Γ)) (e3 : zt_ty Θ' = zt_ty (zg_T Γ)) (hp : (zt_W (zg_T Γ) σ xs).Perm (zt_W Θ' σ' ys ++ r)) (hP : va_P (zt_D (zg_T Γ)) (zt_cl (zg_T Γ)) (zt_W (zg_T Γ) σ xs) H) (hD : va_D (zg_A Γ) (zt_W (zg_T Γ) σ xs)) (hS : va_S (zg_A Γ) (zg_s Γ).heap H locs) (hU : U.heap = H) (hW : (zg_s Γ).WarmedH U.vm) : zdPre Θ' cA δ H.size σ' ys As As.toArray U := by
  have hA := zd_Ain hD hS X.hA hp
  refine ⟨rfl, by rw [hU], ?_, ?_, (vaD_sub hp hD).weaken (fun _ _ _ _ => trivial), X.hNw.warm hW, ?_, ?_⟩
  · rw [hU, e1, e2]
    exact vaP_sub (fun q hq => hp.mem_iff.mpr (List.mem_append_left _ hq)) hP
  · rw [e1, e2, e3]
    exact va_K.moved hW.alike X.hK
  · rw [hU]
    exact X.hSt.go hS hW.alike hA
  · rw [hU, e1, e2]
    exact zDe.go E hS hW.alike hA
theorem zd_post {Θ' : ZTh} {σ' : ZS} {ys r : va_W} {H H1 : Heap} {locs : List Loc} {t : State} {q : ZS × va_W} (X : ZX Γ cc own fr lo) (e1 : zt_D Θ' = zt_D (zg_T Γ)) (e2 : zt_cl Θ' = zt_cl (zg_T Γ)) (hp : (zt_W (zg_T Γ) σ xs).Perm (zt_W Θ' σ' ys ++ r)) (hP : va_P (zt_D (zg_T Γ)) (zt_cl (zg_T Γ)) (zt_W (zg_T Γ) σ xs) H) (hD : va_D (zg_A Γ) (zt_W (zg_T Γ) σ xs)) (hS : va_S (zg_A Γ) (zg_s Γ).heap H locs) (ht : t.heap = H1) (hk : ∀ q : Nat, q < H.size → ¬ va_A (zt_W Θ' σ' ys) H.size q → H1[q]? = H[q]?) (hB : zdB Θ' (zt_W Θ' σ' ys) H.size q t) : va_P (zt_D (zg_T Γ)) (zt_cl (zg_T Γ)) (zt_W Θ' q.1 q.2 ++ r) H1 ∧ va_D (zg_A Γ) (zt_W Θ' q.1 q.2 ++ r) := by
  obtain ⟨b1, b2⟩ := hB
  rw [ht, e1, e2] at b1
  exact zd_back hp hP hD hk (zd_Ain hD hS X.hA hp) b1 b2
theorem zd_rVI {C : String} {ci i0 b : Nat} {qc : vw_C} {fs : List Value} {index mc ms : Nat} {y : MethodName} {code : ByteArray} {nL1 f1 l1 : Nat} {ret : FieldType} {As : List Value} {ys : va_W} {σR : ZS} {post : Int → ZS → va_W → Prop} (X : ZX Γ cc own fr lo) (K : ZCap Γ l Θ nL mc0 ms0) (E : ZDe Γ cA δ) (hM : ZDI l (zR Θ) cA δ y code nL1 ret f1 l1 mc ms (.ref b :: As) σR ys post) (r : va_W) (hp : xs.Perm (ys ++ r)) (hx : ys[i0]? = some (b, .inr (ci, fs))) (hc : (zt_cl Θ)[ci]? = some qc) (hC : qc.1 = C)
    (hw : GoodIn lw_all (wsV own index C y (ws_ y code nL1 (some ret)))) (hd : y.cls = C ∧ y.cls ≠ "java/lang/invoke/MethodHandle" ∧ y.cls ≠ "java/lang/invoke/VarHandle" ∧ (parseMethodDescriptor y.desc).map (fun d => d.parameters.length) = some As.length) (hR : f1 + 1 ≤ fr ∧ 8 + (nL1 + 11) + l1 ≤ lo) (hcs : k + mc ≤ mc0 ∧ n + ms ≤ ms0) (hst : (st.map fun v => v.category).sum ≤ 8) (d : decode cc pc = .ok (.invokevirtual index, 3)) {full : List Value} (hfull : full = As.reverse ++ .ref b :: st)
    (h : ∀ (x : Int) (σ' : ZS) (ys' : va_W), post x σ' ys' → Z Γ (k + mc) (n + ms) σ (ys' ++ r) (pc + 3) lv (.int (iz x) :: st)) : Z Γ k n σ xs pc lv full := by
  subst hfull
  obtain ⟨rfl, rfl, -, hc1, hc2⟩ := K
  intro H locs ls hP hD hS hv
  have hp2 : (zt_W (zg_T Γ) σ xs).Perm (zt_W (zR (zg_T Γ)) σR ys ++ zt_W (zg_T Γ) σ r) := zd_raw hp
  have cw : CallW (zg_R Γ) (zg_s Γ) (zg_a Γ) own C index y code nL1 (some ret) (ws_ y code nL1 (some ret)) { frames := f1, cells := mc, slots := ms, locals := l1 } mc ms As.length := cwV As.length X.hts hw rfl rfl rfl hd (by rw [X.hfr, X.hlo]; exact hR)
  have hg := vaP_sub (D := zt_D (zg_T Γ)) (cl := zt_cl (zg_T Γ)) (b := ys) (fun q hq => hp2.mem_iff.mpr (List.mem_append_left _ hq)) hP
  have hrc : ∃ cell : Cell, H[b]? = some cell ∧ cell.vm.isStatics = false ∧ (zg_s Γ).vm.findClass C = some cell.cls := by rw [← hC]; exact va_recv X.hK hg hc hx
  refine va_calli (va_runV (As := As) (zx_fix X) (hM H.size) cw ⟨zdPre_blind, hrc, fun U hU hW => zd_pre X E rfl rfl rfl hp2 hP hD hS hU hW⟩ rfl rfl hv.1 rfl (lv_room hst) d ⟨by rw [hc1]; exact hcs.1, by rw [hc2]; exact hcs.2⟩) hS (fun q _ hq => zd_Ain hD hS X.hA hp2 q hq) (fun q hq => zd_Ain hD hS X.hA hp2 q hq) (fun r1 q t H1 locs1 ht hvm hpo hB hz hkk hS1 => ?_)
  obtain ⟨x, rfl, hx9⟩ := hpo
  obtain ⟨hP1, hD1⟩ := zd_to (zd_raw' (Θ := zg_T Γ) (σ := σ)) (zd_post (Θ' := zR (zg_T Γ)) (σ' := σR) X rfl rfl hp2 hP hD hS ht hkk hB)
  exact h x q.1 q.2 hx9 H1 locs1 ls hP1 hD1 hS1 hv
theorem zd_rVV {C : String} {ci i0 b : Nat} {qc : vw_C} {fs : List Value} {index mc ms : Nat} {y : MethodName} {code : ByteArray} {nL1 f1 l1 : Nat}  {As : List Value} {ys : va_W} {σR : ZS} {post : ZS → va_W → Prop} (X : ZX Γ cc own fr lo) (K : ZCap Γ l Θ nL mc0 ms0) (E : ZDe Γ cA δ) (hM : ZDV l (zR Θ) cA δ y code nL1 f1 l1 mc ms (.ref b :: As) σR ys post) (r : va_W) (hp : xs.Perm (ys ++ r)) (hx : ys[i0]? = some (b, .inr (ci, fs))) (hc : (zt_cl Θ)[ci]? = some qc) (hC : qc.1 = C)
    (hw : GoodIn lw_all (wsV own index C y (ws_ y code nL1 none))) (hd : y.cls = C ∧ y.cls ≠ "java/lang/invoke/MethodHandle" ∧ y.cls ≠ "java/lang/invoke/VarHandle" ∧ (parseMethodDescriptor y.desc).map (fun d => d.parameters.length) = some As.length) (hR : f1 + 1 ≤ fr ∧ 8 + (nL1 + 11) + l1 ≤ lo) (hcs : k + mc ≤ mc0 ∧ n + ms ≤ ms0) (hst : (st.map fun v => v.category).sum ≤ 8) (d : decode cc pc = .ok (.invokevirtual index, 3)) {full : List Value} (hfull : full = As.reverse ++ .ref b :: st)
    (h : ∀ (σ' : ZS) (ys' : va_W), post σ' ys' → Z Γ (k + mc) (n + ms) σ (ys' ++ r) (pc + 3) lv (st)) : Z Γ k n σ xs pc lv full := by
  subst hfull
  obtain ⟨rfl, rfl, -, hc1, hc2⟩ := K
  intro H locs ls hP hD hS hv
  have hp2 : (zt_W (zg_T Γ) σ xs).Perm (zt_W (zR (zg_T Γ)) σR ys ++ zt_W (zg_T Γ) σ r) := zd_raw hp
  have cw : CallW (zg_R Γ) (zg_s Γ) (zg_a Γ) own C index y code nL1 none (ws_ y code nL1 none) { frames := f1, cells := mc, slots := ms, locals := l1 } mc ms As.length := cwV As.length X.hts hw rfl rfl rfl hd (by rw [X.hfr, X.hlo]; exact hR)
  have hg := vaP_sub (D := zt_D (zg_T Γ)) (cl := zt_cl (zg_T Γ)) (b := ys) (fun q hq => hp2.mem_iff.mpr (List.mem_append_left _ hq)) hP
  have hrc : ∃ cell : Cell, H[b]? = some cell ∧ cell.vm.isStatics = false ∧ (zg_s Γ).vm.findClass C = some cell.cls := by rw [← hC]; exact va_recv X.hK hg hc hx
  refine va_callv (va_runV (As := As) (zx_fix X) (hM H.size) cw ⟨zdPre_blind, hrc, fun U hU hW => zd_pre X E rfl rfl rfl hp2 hP hD hS hU hW⟩ rfl rfl hv.1 rfl (lv_room hst) d ⟨by rw [hc1]; exact hcs.1, by rw [hc2]; exact hcs.2⟩) hS (fun q _ hq => zd_Ain hD hS X.hA hp2 q hq) (fun q hq => zd_Ain hD hS X.hA hp2 q hq) (fun q t H1 locs1 ht hvm hpo hB hz hkk hS1 => ?_)
  have hx9 := hpo
  obtain ⟨hP1, hD1⟩ := zd_to (zd_raw' (Θ := zg_T Γ) (σ := σ)) (zd_post (Θ' := zR (zg_T Γ)) (σ' := σR) X rfl rfl hp2 hP hD hS ht hkk hB)
  exact h q.1 q.2 hx9 H1 locs1 ls hP1 hD1 hS1 hv
theorem zd_rVR {C : String} {ci i0 b : Nat} {qc : vw_C} {fs : List Value} {index mc ms : Nat} {y : MethodName} {code : ByteArray} {nL1 f1 l1 : Nat} {ret : FieldType} {As : List Value} {ys : va_W} {σR : ZS} {post : Nat → ZS → va_W → Prop} (X : ZX Γ cc own fr lo) (K : ZCap Γ l Θ nL mc0 ms0) (E : ZDe Γ cA δ) (hM : ZDR l (zR Θ) cA δ y code nL1 ret f1 l1 mc ms (.ref b :: As) σR ys post) (r : va_W) (hp : xs.Perm (ys ++ r)) (hx : ys[i0]? = some (b, .inr (ci, fs))) (hc : (zt_cl Θ)[ci]? = some qc) (hC : qc.1 = C)
    (hw : GoodIn lw_all (wsV own index C y (ws_ y code nL1 (some ret)))) (hd : y.cls = C ∧ y.cls ≠ "java/lang/invoke/MethodHandle" ∧ y.cls ≠ "java/lang/invoke/VarHandle" ∧ (parseMethodDescriptor y.desc).map (fun d => d.parameters.length) = some As.length) (hR : f1 + 1 ≤ fr ∧ 8 + (nL1 + 11) + l1 ≤ lo) (hcs : k + mc ≤ mc0 ∧ n + ms ≤ ms0) (hst : (st.map fun v => v.category).sum ≤ 8) (d : decode cc pc = .ok (.invokevirtual index, 3)) {full : List Value} (hfull : full = As.reverse ++ .ref b :: st)
    (h : ∀ (x : Nat) (σ' : ZS) (ys' : va_W), post x σ' ys' → Z Γ (k + mc) (n + ms) σ (ys' ++ r) (pc + 3) lv (.ref x :: st)) : Z Γ k n σ xs pc lv full := by
  subst hfull
  obtain ⟨rfl, rfl, -, hc1, hc2⟩ := K
  intro H locs ls hP hD hS hv
  have hp2 : (zt_W (zg_T Γ) σ xs).Perm (zt_W (zR (zg_T Γ)) σR ys ++ zt_W (zg_T Γ) σ r) := zd_raw hp
  have cw : CallW (zg_R Γ) (zg_s Γ) (zg_a Γ) own C index y code nL1 (some ret) (ws_ y code nL1 (some ret)) { frames := f1, cells := mc, slots := ms, locals := l1 } mc ms As.length := cwV As.length X.hts hw rfl rfl rfl hd (by rw [X.hfr, X.hlo]; exact hR)
  have hg := vaP_sub (D := zt_D (zg_T Γ)) (cl := zt_cl (zg_T Γ)) (b := ys) (fun q hq => hp2.mem_iff.mpr (List.mem_append_left _ hq)) hP
  have hrc : ∃ cell : Cell, H[b]? = some cell ∧ cell.vm.isStatics = false ∧ (zg_s Γ).vm.findClass C = some cell.cls := by rw [← hC]; exact va_recv X.hK hg hc hx
  refine va_callr (va_runV (As := As) (zx_fix X) (hM H.size) cw ⟨zdPre_blind, hrc, fun U hU hW => zd_pre X E rfl rfl rfl hp2 hP hD hS hU hW⟩ rfl rfl hv.1 rfl (lv_room hst) d ⟨by rw [hc1]; exact hcs.1, by rw [hc2]; exact hcs.2⟩) hS (fun q _ hq => zd_Ain hD hS X.hA hp2 q hq) (fun q hq => zd_Ain hD hS X.hA hp2 q hq) (fun q a t H1 locs1 ht hvm hpo hB hz hkk hS1 => ?_)
  obtain ⟨hx9, hB⟩ := hB
  obtain ⟨hP1, hD1⟩ := zd_to (zd_raw' (Θ := zg_T Γ) (σ := σ)) (zd_post (Θ' := zR (zg_T Γ)) (σ' := σR) X rfl rfl hp2 hP hD hS ht hkk hB)
  exact h a q.1 q.2 hx9 H1 locs1 ls hP1 hD1 hS1 hv
theorem zd_rSI  {index mc ms : Nat} {y : MethodName} {code : ByteArray} {nL1 f1 l1 : Nat} {ret : FieldType} {As : List Value} {ys : va_W} {σR : ZS} {post : Int → ZS → va_W → Prop} (X : ZX Γ cc own fr lo) (K : ZCap Γ l Θ nL mc0 ms0) (E : ZDe Γ cA δ) (hM : ZDI l (zR Θ) cA δ y code nL1 ret f1 l1 mc ms As σR ys post) (r : va_W) (hp : xs.Perm (ys ++ r)) 
    (hw : GoodIn lw_all (va_wsS own index y (ws_ y code nL1 (some ret)))) (hd : y.cls ≠ "java/lang/invoke/MethodHandle" ∧ y.cls ≠ "java/lang/invoke/VarHandle" ∧ (parseMethodDescriptor y.desc).map (fun d => d.parameters.length) = some As.length) (hR : f1 + 1 ≤ fr ∧ 8 + (nL1 + 11) + l1 ≤ lo) (hcs : k + mc ≤ mc0 ∧ n + ms ≤ ms0) (hst : (st.map fun v => v.category).sum ≤ 8) (d : decode cc pc = .ok (.invokestatic index, 3)) {full : List Value} (hfull : full = As.reverse ++ st)
    (h : ∀ (x : Int) (σ' : ZS) (ys' : va_W), post x σ' ys' → Z Γ (k + mc) (n + ms) σ (ys' ++ r) (pc + 3) lv (.int (iz x) :: st)) : Z Γ k n σ xs pc lv full := by
  subst hfull
  obtain ⟨rfl, rfl, -, hc1, hc2⟩ := K
  intro H locs ls hP hD hS hv
  have hp2 : (zt_W (zg_T Γ) σ xs).Perm (zt_W (zR (zg_T Γ)) σR ys ++ zt_W (zg_T Γ) σ r) := zd_raw hp
  have cw := va_cwS (R := zg_R Γ) (s := zg_s Γ) (args := zg_a Γ) (own := own) (index := index) (y := y) (bytes := code) (maxL := nL1) (ret := (some ret)) (rm := { frames := f1, cells := mc, slots := ms, locals := l1 }) (mc := mc) (ms := ms) As.length X.hts hw rfl rfl rfl hd (by rw [X.hfr, X.hlo]; exact hR)
  refine va_calli (va_runS (As := As) (zx_fix X) (hM H.size) cw ⟨zdPre_blind, fun U hU hW => zd_pre X E rfl rfl rfl hp2 hP hD hS hU hW⟩ rfl rfl hv.1 rfl (lv_room hst) d ⟨by rw [hc1]; exact hcs.1, by rw [hc2]; exact hcs.2⟩) hS (fun q _ hq => zd_Ain hD hS X.hA hp2 q hq) (fun q hq => zd_Ain hD hS X.hA hp2 q hq) (fun r1 q t H1 locs1 ht hvm hpo hB hz hkk hS1 => ?_)
  obtain ⟨x, rfl, hx9⟩ := hpo
  obtain ⟨hP1, hD1⟩ := zd_to (zd_raw' (Θ := zg_T Γ) (σ := σ)) (zd_post (Θ' := zR (zg_T Γ)) (σ' := σR) X rfl rfl hp2 hP hD hS ht hkk hB)
  exact h x q.1 q.2 hx9 H1 locs1 ls hP1 hD1 hS1 hv
theorem zd_rSR  {index mc ms : Nat} {y : MethodName} {code : ByteArray} {nL1 f1 l1 : Nat} {ret : FieldType} {As : List Value} {ys : va_W} {σR : ZS} {post : Nat → ZS → va_W → Prop} (X : ZX Γ cc own fr lo) (K : ZCap Γ l Θ nL mc0 ms0) (E : ZDe Γ cA δ) (hM : ZDR l (zR Θ) cA δ y code nL1 ret f1 l1 mc ms As σR ys post) (r : va_W) (hp : xs.Perm (ys ++ r)) 
    (hw : GoodIn lw_all (va_wsS own index y (ws_ y code nL1 (some ret)))) (hd : y.cls ≠ "java/lang/invoke/MethodHandle" ∧ y.cls ≠ "java/lang/invoke/VarHandle" ∧ (parseMethodDescriptor y.desc).map (fun d => d.parameters.length) = some As.length) (hR : f1 + 1 ≤ fr ∧ 8 + (nL1 + 11) + l1 ≤ lo) (hcs : k + mc ≤ mc0 ∧ n + ms ≤ ms0) (hst : (st.map fun v => v.category).sum ≤ 8) (d : decode cc pc = .ok (.invokestatic index, 3)) {full : List Value} (hfull : full = As.reverse ++ st)
    (h : ∀ (x : Nat) (σ' : ZS) (ys' : va_W), post x σ' ys' → Z Γ (k + mc) (n + ms) σ (ys' ++ r) (pc + 3) lv (.ref x :: st)) : Z Γ k n σ xs pc lv full := by
  subst hfull
  obtain ⟨rfl, rfl, -, hc1, hc2⟩ := K
  intro H locs ls hP hD hS hv
  have hp2 : (zt_W (zg_T Γ) σ xs).Perm (zt_W (zR (zg_T Γ)) σR ys ++ zt_W (zg_T Γ) σ r) := zd_raw hp
  have cw := va_cwS (R := zg_R Γ) (s := zg_s Γ) (args := zg_a Γ) (own := own) (index := index) (y := y) (bytes := code) (maxL := nL1) (ret := (some ret)) (rm := { frames := f1, cells := mc, slots := ms, locals := l1 }) (mc := mc) (ms := ms) As.length X.hts hw rfl rfl rfl hd (by rw [X.hfr, X.hlo]; exact hR)
  refine va_callr (va_runS (As := As) (zx_fix X) (hM H.size) cw ⟨zdPre_blind, fun U hU hW => zd_pre X E rfl rfl rfl hp2 hP hD hS hU hW⟩ rfl rfl hv.1 rfl (lv_room hst) d ⟨by rw [hc1]; exact hcs.1, by rw [hc2]; exact hcs.2⟩) hS (fun q _ hq => zd_Ain hD hS X.hA hp2 q hq) (fun q hq => zd_Ain hD hS X.hA hp2 q hq) (fun q a t H1 locs1 ht hvm hpo hB hz hkk hS1 => ?_)
  obtain ⟨hx9, hB⟩ := hB
  obtain ⟨hP1, hD1⟩ := zd_to (zd_raw' (Θ := zg_T Γ) (σ := σ)) (zd_post (Θ' := zR (zg_T Γ)) (σ' := σR) X rfl rfl hp2 hP hD hS ht hkk hB)
  exact h a q.1 q.2 hx9 H1 locs1 ls hP1 hD1 hS1 hv
theorem zd_VI {C : String} {ci q0 : Nat} {qc : vw_C} {ks : List Nat} {index mc ms : Nat} {y : MethodName} {code : ByteArray} {nL1 f1 l1 : Nat} {ret : FieldType} {As : List Value}  {post : Int → ZS → va_W → Prop} (X : ZX Γ cc own fr lo) (K : ZCap Γ l Θ nL mc0 ms0) (E : ZDe Γ cA δ) (hM : ZDI l Θ cA δ y code nL1 ret f1 l1 mc ms (.ref (zt_ad Θ q0) :: As) σ xs post)  (hq : q0 < zt_N Θ) (hL : zt_L Θ q0 = .inl (ci, ks)) (hc : (zt_cl Θ)[ci]? = some qc) (hC : qc.1 = C)
    (hw : GoodIn lw_all (wsV own index C y (ws_ y code nL1 (some ret)))) (hd : y.cls = C ∧ y.cls ≠ "java/lang/invoke/MethodHandle" ∧ y.cls ≠ "java/lang/invoke/VarHandle" ∧ (parseMethodDescriptor y.desc).map (fun d => d.parameters.length) = some As.length) (hR : f1 + 1 ≤ fr ∧ 8 + (nL1 + 11) + l1 ≤ lo) (hcs : k + mc ≤ mc0 ∧ n + ms ≤ ms0) (hst : (st.map fun v => v.category).sum ≤ 8) (d : decode cc pc = .ok (.invokevirtual index, 3)) {full : List Value} (hfull : full = As.reverse ++ .ref (zt_ad Θ q0) :: st)
    (h : ∀ (x : Int) (σ' : ZS) (ys' : va_W), post x σ' ys' → Z Γ (k + mc) (n + ms) σ' ys' (pc + 3) lv (.int (iz x) :: st)) : Z Γ k n σ xs pc lv full := by
  subst hfull
  obtain ⟨rfl, rfl, -, hc1, hc2⟩ := K
  intro H locs ls hP hD hS hv
  have hp2 : (zt_W (zg_T Γ) σ xs).Perm (zt_W (zg_T Γ) σ xs ++ []) := by rw [List.append_nil]
  have cw : CallW (zg_R Γ) (zg_s Γ) (zg_a Γ) own C index y code nL1 (some ret) (ws_ y code nL1 (some ret)) { frames := f1, cells := mc, slots := ms, locals := l1 } mc ms As.length := cwV As.length X.hts hw rfl rfl rfl hd (by rw [X.hfr, X.hlo]; exact hR)
  have hg := zt_at (Θ := zg_T Γ) (σ := σ) (xs := xs) hq
  rw [hL] at hg
  have hrc : ∃ cell : Cell, H[zt_ad (zg_T Γ) q0]? = some cell ∧ cell.vm.isStatics = false ∧ (zg_s Γ).vm.findClass C = some cell.cls := by rw [← hC]; exact va_recv X.hK hP hc hg
  refine va_calli (va_runV (As := As) (zx_fix X) (hM H.size) cw ⟨zdPre_blind, hrc, fun U hU hW => zd_pre X E rfl rfl rfl hp2 hP hD hS hU hW⟩ rfl rfl hv.1 rfl (lv_room hst) d ⟨by rw [hc1]; exact hcs.1, by rw [hc2]; exact hcs.2⟩) hS (fun q _ hq => zd_Ain hD hS X.hA hp2 q hq) (fun q hq => zd_Ain hD hS X.hA hp2 q hq) (fun r1 q t H1 locs1 ht hvm hpo hB hz hkk hS1 => ?_)
  obtain ⟨x, rfl, hx9⟩ := hpo
  obtain ⟨hP1, hD1⟩ := zd_to (by rw [List.append_nil]) (zd_post X rfl rfl hp2 hP hD hS ht hkk hB)
  exact h x q.1 q.2 hx9 H1 locs1 ls hP1 hD1 hS1 hv
theorem zd_VV {C : String} {ci q0 : Nat} {qc : vw_C} {ks : List Nat} {index mc ms : Nat} {y : MethodName} {code : ByteArray} {nL1 f1 l1 : Nat}  {As : List Value}  {post : ZS → va_W → Prop} (X : ZX Γ cc own fr lo) (K : ZCap Γ l Θ nL mc0 ms0) (E : ZDe Γ cA δ) (hM : ZDV l Θ cA δ y code nL1 f1 l1 mc ms (.ref (zt_ad Θ q0) :: As) σ xs post)  (hq : q0 < zt_N Θ) (hL : zt_L Θ q0 = .inl (ci, ks)) (hc : (zt_cl Θ)[ci]? = some qc) (hC : qc.1 = C)
    (hw : GoodIn lw_all (wsV own index C y (ws_ y code nL1 none))) (hd : y.cls = C ∧ y.cls ≠ "java/lang/invoke/MethodHandle" ∧ y.cls ≠ "java/lang/invoke/VarHandle" ∧ (parseMethodDescriptor y.desc).map (fun d => d.parameters.length) = some As.length) (hR : f1 + 1 ≤ fr ∧ 8 + (nL1 + 11) + l1 ≤ lo) (hcs : k + mc ≤ mc0 ∧ n + ms ≤ ms0) (hst : (st.map fun v => v.category).sum ≤ 8) (d : decode cc pc = .ok (.invokevirtual index, 3)) {full : List Value} (hfull : full = As.reverse ++ .ref (zt_ad Θ q0) :: st)
    (h : ∀ (σ' : ZS) (ys' : va_W), post σ' ys' → Z Γ (k + mc) (n + ms) σ' ys' (pc + 3) lv (st)) : Z Γ k n σ xs pc lv full := by
  subst hfull
  obtain ⟨rfl, rfl, -, hc1, hc2⟩ := K
  intro H locs ls hP hD hS hv
  have hp2 : (zt_W (zg_T Γ) σ xs).Perm (zt_W (zg_T Γ) σ xs ++ []) := by rw [List.append_nil]
  have cw : CallW (zg_R Γ) (zg_s Γ) (zg_a Γ) own C index y code nL1 none (ws_ y code nL1 none) { frames := f1, cells := mc, slots := ms, locals := l1 } mc ms As.length := cwV As.length X.hts hw rfl rfl rfl hd (by rw [X.hfr, X.hlo]; exact hR)
  have hg := zt_at (Θ := zg_T Γ) (σ := σ) (xs := xs) hq
  rw [hL] at hg
  have hrc : ∃ cell : Cell, H[zt_ad (zg_T Γ) q0]? = some cell ∧ cell.vm.isStatics = false ∧ (zg_s Γ).vm.findClass C = some cell.cls := by rw [← hC]; exact va_recv X.hK hP hc hg
  refine va_callv (va_runV (As := As) (zx_fix X) (hM H.size) cw ⟨zdPre_blind, hrc, fun U hU hW => zd_pre X E rfl rfl rfl hp2 hP hD hS hU hW⟩ rfl rfl hv.1 rfl (lv_room hst) d ⟨by rw [hc1]; exact hcs.1, by rw [hc2]; exact hcs.2⟩) hS (fun q _ hq => zd_Ain hD hS X.hA hp2 q hq) (fun q hq => zd_Ain hD hS X.hA hp2 q hq) (fun q t H1 locs1 ht hvm hpo hB hz hkk hS1 => ?_)
  have hx9 := hpo
  obtain ⟨hP1, hD1⟩ := zd_to (by rw [List.append_nil]) (zd_post X rfl rfl hp2 hP hD hS ht hkk hB)
  exact h q.1 q.2 hx9 H1 locs1 ls hP1 hD1 hS1 hv
theorem zd_VR {C : String} {ci q0 : Nat} {qc : vw_C} {ks : List Nat} {index mc ms : Nat} {y : MethodName} {code : ByteArray} {nL1 f1 l1 : Nat} {ret : FieldType} {As : List Value}  {post : Nat → ZS → va_W → Prop} (X : ZX Γ cc own fr lo) (K : ZCap Γ l Θ nL mc0 ms0) (E : ZDe Γ cA δ) (hM : ZDR l Θ cA δ y code nL1 ret f1 l1 mc ms (.ref (zt_ad Θ q0) :: As) σ xs post)  (hq : q0 < zt_N Θ) (hL : zt_L Θ q0 = .inl (ci, ks)) (hc : (zt_cl Θ)[ci]? = some qc) (hC : qc.1 = C)
    (hw : GoodIn lw_all (wsV own index C y (ws_ y code nL1 (some ret)))) (hd : y.cls = C ∧ y.cls ≠ "java/lang/invoke/MethodHandle" ∧ y.cls ≠ "java/lang/invoke/VarHandle" ∧ (parseMethodDescriptor y.desc).map (fun d => d.parameters.length) = some As.length) (hR : f1 + 1 ≤ fr ∧ 8 + (nL1 + 11) + l1 ≤ lo) (hcs : k + mc ≤ mc0 ∧ n + ms ≤ ms0) (hst : (st.map fun v => v.category).sum ≤ 8) (d : decode cc pc = .ok (.invokevirtual index, 3)) {full : List Value} (hfull : full = As.reverse ++ .ref (zt_ad Θ q0) :: st)
    (h : ∀ (x : Nat) (σ' : ZS) (ys' : va_W), post x σ' ys' → Z Γ (k + mc) (n + ms) σ' ys' (pc + 3) lv (.ref x :: st)) : Z Γ k n σ xs pc lv full := by
  subst hfull
  obtain ⟨rfl, rfl, -, hc1, hc2⟩ := K
  intro H locs ls hP hD hS hv
  have hp2 : (zt_W (zg_T Γ) σ xs).Perm (zt_W (zg_T Γ) σ xs ++ []) := by rw [List.append_nil]
  have cw : CallW (zg_R Γ) (zg_s Γ) (zg_a Γ) own C index y code nL1 (some ret) (ws_ y code nL1 (some ret)) { frames := f1, cells := mc, slots := ms, locals := l1 } mc ms As.length := cwV As.length X.hts hw rfl rfl rfl hd (by rw [X.hfr, X.hlo]; exact hR)
  have hg := zt_at (Θ := zg_T Γ) (σ := σ) (xs := xs) hq
  rw [hL] at hg
  have hrc : ∃ cell : Cell, H[zt_ad (zg_T Γ) q0]? = some cell ∧ cell.vm.isStatics = false ∧ (zg_s Γ).vm.findClass C = some cell.cls := by rw [← hC]; exact va_recv X.hK hP hc hg
  refine va_callr (va_runV (As := As) (zx_fix X) (hM H.size) cw ⟨zdPre_blind, hrc, fun U hU hW => zd_pre X E rfl rfl rfl hp2 hP hD hS hU hW⟩ rfl rfl hv.1 rfl (lv_room hst) d ⟨by rw [hc1]; exact hcs.1, by rw [hc2]; exact hcs.2⟩) hS (fun q _ hq => zd_Ain hD hS X.hA hp2 q hq) (fun q hq => zd_Ain hD hS X.hA hp2 q hq) (fun q a t H1 locs1 ht hvm hpo hB hz hkk hS1 => ?_)
  obtain ⟨hx9, hB⟩ := hB
  obtain ⟨hP1, hD1⟩ := zd_to (by rw [List.append_nil]) (zd_post X rfl rfl hp2 hP hD hS ht hkk hB)
  exact h a q.1 q.2 hx9 H1 locs1 ls hP1 hD1 hS1 hv
end ZDC
