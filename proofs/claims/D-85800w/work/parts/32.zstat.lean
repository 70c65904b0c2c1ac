/-! ZSTAT: a nest mate's constructor; the component's tables, static arrays beside the worlds -/
def zSA (nm : String) (q N : Nat) (g : Int → Int) (A : Nat → Prop) (U : State) (H : Heap) : Prop := va_Z "MatrixPress" nm "[I" (.ref q) A U H ∧ va_X q N (fun j => iz (g (j : Int))) U H ∧ q < H.size ∧ ¬ A q
theorem zSA.go {nm : String} {q N : Nat} {g : Int → Int} {A B : Nat → Prop} {s U : State} {H0 H : Heap} {locs : List Loc} (h : zSA nm q N g A s H0) (hS : va_S A H0 H locs) (hvm : s.vm.Alike U.vm) (hAB : ∀ q, B q → A q) : zSA nm q N g B U H := by
  obtain ⟨h1, h2, h3, h4⟩ := h
  exact ⟨((h1.kept hS.2.1).moved hvm).narrow hAB, (h2.kept (hS.2.1 q h3 h4)).moved hvm, Nat.lt_of_lt_of_le h3 hS.1, fun z => h4 (hAB _ z)⟩
section ZDUN
variable {Γ : ZG} {cc : ByteArray} {own : String} {fr lo : Nat} {k n : Nat} {σ : ZS} {xs : va_W} {pc : Nat} {lv : List (Nat × Value)} {st : List Value} {l : Launch} {Θ : ZTh} {nL mc0 ms0 : Nat} {cA : ClassId} {δ : Nat × Nat}
theorem zd_rUN {host : String} {b index mc ms : Nat} {y : MethodName} {code : ByteArray} {nL1 f1 l1 : Nat} {As : List Value} {ys : va_W} {σR : ZS} {post : ZS → va_W → Prop} (X : ZX Γ cc own fr lo) (K : ZCap Γ l Θ nL mc0 ms0) (E : ZDe Γ cA δ) (hM : ZDV l (zR Θ) cA δ y code nL1 f1 l1 mc ms (.ref b :: As) σR ys post) (r : va_W) (hp : xs.Perm (ys ++ r))
    (h1 : Cond.methodLinkNest own index y host ∈ lw_tbl) (h2 : Cond.instanceMethod y ∈ lw_all) (h3 : Cond.initialized y.cls ∈ lw_all) (h4 : Cond.code y code nL1 none ∈ lw_all) (hy : y.name = "<init>") (hd : y.cls ≠ "java/lang/invoke/MethodHandle" ∧ y.cls ≠ "java/lang/invoke/VarHandle" ∧ (parseMethodDescriptor y.desc).map (fun d => d.parameters.length) = some As.length) (hR : f1 + 1 ≤ fr ∧ 8 + (nL1 + 11) + l1 ≤ lo) (hcs : k + mc ≤ mc0 ∧ n + ms ≤ ms0) (hst : (st.map fun v => v.category).sum ≤ 8) (d : decode cc pc = .ok (.invokespecial index, 3)) {full : List Value} (hfull : full = As.reverse ++ .ref b :: st)
    (h : ∀ (σ' : ZS) (ys' : va_W), post σ' ys' → Z Γ (k + mc) (n + ms) σ (ys' ++ r) (pc + 3) lv st) : Z Γ k n σ xs pc lv full := by
  subst hfull
  obtain ⟨rfl, rfl, -, hc1, hc2⟩ := K
  intro H locs ls hP hD hS hv
  have hp2 : (zt_W (zg_T Γ) σ xs).Perm (zt_W (zR (zg_T Γ)) σR ys ++ zt_W (zg_T Γ) σ r) := zd_raw hp
  have cw := va_cnB (R := zg_R Γ) (s := zg_s Γ) (args := zg_a Γ) (own := own) (host := host) (index := index) (y := y) (bytes := code) (maxL := nL1) (ret := none) (rm := { frames := f1, cells := mc, slots := ms, locals := l1 }) (mc := mc) (ms := ms) As.length X.hts (lw_meth h4) rfl rfl rfl (X.nw h1 rfl) (X.hts _ h3) hd (by rw [X.hfr, X.hlo]; exact hR)
  refine va_callv (va_runIN (As := As) (zx_fix X) (hM H.size) ⟨cw, hy, X.hts _ h2⟩ ⟨zdPre_blind, fun U hU hW => zd_pre X E rfl rfl rfl hp2 hP hD hS hU hW⟩ rfl rfl hv.1 rfl (lv_room hst) d ⟨by rw [hc1]; exact hcs.1, by rw [hc2]; exact hcs.2⟩) hS (fun q _ hq => zd_Ain hD hS X.hA hp2 q hq) (fun q hq => zd_Ain hD hS X.hA hp2 q hq) (fun q t H1 locs1 ht hvm hpo hB hz hkk hS1 => ?_)
  obtain ⟨hP1, hD1⟩ := zd_to (zd_raw' (Θ := zg_T Γ) (σ := σ)) (zd_post (Θ' := zR (zg_T Γ)) (σ' := σR) X rfl rfl hp2 hP hD hS ht hkk hB)
  exact h q.1 q.2 hpo H1 locs1 ls hP1 hD1 hS1 hv
theorem z_getSA {nm : String} {q N index : Nat} {g : Int → Int} (X : ZX Γ cc own fr lo) (S : zSA nm q N g (zg_A Γ) (zg_s Γ) (zg_s Γ).heap) (hl : Cond.fieldLinkNest own index "MatrixPress" nm "[I" "MatrixPress" ∈ lw_tbl) (d : decode cc pc = .ok (.getstatic index, 3)) (h : Z Γ k n σ xs (pc + 3) lv (.ref q :: st)) : Z Γ k n σ xs pc lv st := fun H locs ls hP hD hS hv => va_getsN X.hx X.hb S.1 hS X.hown (va_Nw.use rfl (X.nw hl rfl)) (fun _ h => h) d (h H locs ls hP hD hS hv)
theorem z_aldSA {nm : String} {q N : Nat} {g : Int → Int} (X : ZX Γ cc own fr lo) (S : zSA nm q N g (zg_A Γ) (zg_s Γ) (zg_s Γ).heap) (hn : N < 2147483648) {i : Int} (hi : 0 ≤ i ∧ i < (N : Int)) (d : decode cc pc = .ok (.iaload, 1)) (h : Z Γ k n σ xs (pc + 1) lv (.int (iz (g i)) :: st)) : Z Γ k n σ xs pc lv (.int (iz i) :: .ref q :: st) := fun H locs ls hP hD hS hv => by
  refine va_sld X.hx X.hb S.2.1 S.2.2.1 S.2.2.2 hS (iz_vp_in hi.1 hi.2 hn) d ?_
  rw [iz_clamp hi.1 hi.2 hn, show ((i.toNat : Nat) : Int) = i from Int.toNat_of_nonneg hi.1]
  exact h H locs ls hP hD hS hv
end ZDUN
