/-! ZEXT: contracts that ask one thing more of what lies beside the worlds -/
abbrev ZEx : Type := (Nat → Prop) → State → Heap → Prop
def ZExGo (Ext : ZEx) : Prop := ∀ (A B : Nat → Prop) (s U : State) (H0 H : Heap) (locs : List Loc), Ext A s H0 → va_S A H0 H locs → s.vm.Alike U.vm → (∀ q, B q → A q) → Ext B U H
def ZDVE (l : Launch) (Θ : ZTh) (cA : ClassId) (δ : Nat × Nat) (Ext : ZEx) (y : MethodName) (code : ByteArray) (nL : Nat) (fr lo mc ms : Nat) (av : List Value) (σ : ZS) (xs : va_W) (post : ZS → va_W → Prop) : Prop :=
  ∀ sz : Nat, Met l y (ws_ y code nL none) { frames := fr, cells := mc, slots := ms, locals := lo } (fun args U => zdPre Θ cA δ sz σ xs av args U ∧ Ext (va_A (zt_W Θ σ xs) sz) U U.heap) (va_Qv (fun (q : ZS × va_W) => post q.1 q.2) (zdB Θ (zt_W Θ σ xs) sz) (va_A (zt_W Θ σ xs) sz)) mc ms (va_A (zt_W Θ σ xs) sz)
theorem ZDVE.ofI {Ext : ZEx} {l : Launch} {Θ : ZTh} {cA : ClassId} {δ : Nat × Nat} {y : MethodName} {code : ByteArray} {nL : Nat} {fr lo mc ms : Nat} {av : List Value} {σ : ZS} {xs : va_W} {post : ZS → va_W → Prop} (hy : plainName y.cls = true) (hlen : (lg_sl av).length ≤ nL)
    (walk : ∀ (Γ : ZG), ZX Γ code y.cls fr lo → ZCap Γ l Θ nL mc ms → ZDe Γ cA δ → Ext (zg_A Γ) (zg_s Γ) (zg_s Γ).heap → (zg_me Γ).name = y.name → ZDretV Γ code mc ms post → Z Γ 0 0 σ xs 0 (lv_args 0 av) [])   : ZDVE l Θ cA δ Ext y code nL fr lo mc ms av σ xs post := by
  intro sz
  refine Met.ofW (cc := code) (maxL := nL) (ret := none) hy rfl ?_
  intro p e s m args below meth c s₁ B hml hv
  obtain ⟨⟨rfl, hsz, hP, hK, hD0, hNw, hSt, hDe⟩, hEx⟩ := hv
  subst hsz
  have hts := atoms_spec (ws := ws_ y code nL none) B.pre
  have hts : ∀ w ∈ lw_all, w.before _ s = true := fun w h => hts w (List.mem_cons_of_mem _ h)
  have hown : s.vm.findClass y.cls = some m.cls := findClass_of_methodNamed B.named
  have hD : va_D (va_A (zt_W Θ σ xs) s.heap.size) (zt_W Θ σ xs) := hD0.self
  have hl := lv_entry av (n := nL) hlen
  rw [lg_entry_eq]
  generalize (lg_sl av ++ List.replicate (nL - (lg_sl av).length) Slot.unset).toArray = ls at hl ⊢
  have hr := B.returns
  have hlk := B.notSynchronized
  have hbx := B.exec
  have hbb := B.bytes
  let Γ : ZG := zMk p l e { frames := fr, cells := mc, slots := ms, locals := lo } s m av.toArray below meth c (MQ below (va_Qv (fun (q : ZS × va_W) => post q.1 q.2) (zdB Θ (zt_W Θ σ xs) s.heap.size) (va_A (zt_W Θ σ xs) s.heap.size)) av.toArray s mc ms (va_A (zt_W Θ σ xs) s.heap.size)) (va_A (zt_W Θ σ xs) s.heap.size) Θ nL
  have X : ZX Γ code y.cls fr lo := ⟨hbx, hbb, hml, hown, hts, hlk, hK, fun q h => Or.inr h, rfl, rfl, hNw, hSt⟩
  refine walk Γ X ⟨rfl, rfl, rfl, rfl, rfl⟩ hDe hEx (name_of_methodNamed B.named B.method).1 (fun k n pc σ' xs' lv d hk hm hp => ?_) s.heap [] ls hP hD va_S.rf hl
  intro H locs ls' hP' hD' hS' hv'
  refine W.widen hk hm ?_
  exact W.vret hbx hbb hr (fun t ht hW => ⟨⟨(σ', xs'), rfl, hp, by rw [ht]; exact hP', hD'⟩, hS'.F ht⟩) hS'.2.2 d hlk
section ZDUE
variable {Γ : ZG} {cc : ByteArray} {own : String} {fr lo : Nat} {k n : Nat} {σ : ZS} {xs : va_W} {pc : Nat} {lv : List (Nat × Value)} {st : List Value} {l : Launch} {Θ : ZTh} {nL mc0 ms0 : Nat} {cA : ClassId} {δ : Nat × Nat}
theorem zd_rUE {Ext : ZEx} {b index mc ms : Nat} {y : MethodName} {code : ByteArray} {nL1 f1 l1 : Nat} {As : List Value} {ys : va_W} {σR : ZS} {post : ZS → va_W → Prop} (X : ZX Γ cc own fr lo) (K : ZCap Γ l Θ nL mc0 ms0) (E : ZDe Γ cA δ) (hGo : ZExGo Ext) (hEx : Ext (zg_A Γ) (zg_s Γ) (zg_s Γ).heap) (hM : ZDVE l (zR Θ) cA δ Ext y code nL1 f1 l1 mc ms (.ref b :: As) σR ys post) (r : va_W) (hp : xs.Perm (ys ++ r))
    (h1 : Cond.methodLink own index y ∈ lw_all) (h2 : Cond.instanceMethod y ∈ lw_all) (h3 : Cond.initialized y.cls ∈ lw_all) (h4 : Cond.code y code nL1 none ∈ lw_all) (hy : y.name = "<init>") (hd : y.cls ≠ "java/lang/invoke/MethodHandle" ∧ y.cls ≠ "java/lang/invoke/VarHandle" ∧ (parseMethodDescriptor y.desc).map (fun d => d.parameters.length) = some As.length) (hR : f1 + 1 ≤ fr ∧ 8 + (nL1 + 11) + l1 ≤ lo) (hcs : k + mc ≤ mc0 ∧ n + ms ≤ ms0) (hst : (st.map fun v => v.category).sum ≤ 8) (d : decode cc pc = .ok (.invokespecial index, 3)) {full : List Value} (hfull : full = As.reverse ++ .ref b :: st)
    (h : ∀ (σ' : ZS) (ys' : va_W), post σ' ys' → Z Γ (k + mc) (n + ms) σ (ys' ++ r) (pc + 3) lv st) : Z Γ k n σ xs pc lv full := by
  subst hfull
  obtain ⟨rfl, rfl, -, hc1, hc2⟩ := K
  intro H locs ls hP hD hS hv
  have hp2 : (zt_W (zg_T Γ) σ xs).Perm (zt_W (zR (zg_T Γ)) σR ys ++ zt_W (zg_T Γ) σ r) := zd_raw hp
  have cw := cwI (R := zg_R Γ) (s := zg_s Γ) (args := zg_a Γ) (own := own) (index := index) (y := y) (bytes := code) (maxL := nL1) (rm := { frames := f1, cells := mc, slots := ms, locals := l1 }) (mc := mc) (ms := ms) As.length X.hts (lw_meth h4) rfl rfl rfl (X.hts _ h3) (X.hts _ h1) (X.hts _ h2) hy hd (by rw [X.hfr, X.hlo]; exact hR)
  refine va_callv (va_runI (As := As) (zx_fix X) (hM H.size) cw ⟨fun a U g mk q => ⟨zdPre_blind a U g mk q.1, hGo _ _ U (U.calling g mk a) _ _ [] q.2 va_S.rf (Vm.Alike.refl U.vm) (fun _ h => h)⟩, fun U hU hW => ⟨zd_pre X E rfl rfl rfl hp2 hP hD hS hU hW, by rw [hU]; exact hGo _ _ _ _ _ _ _ hEx hS hW.alike (zd_Ain hD hS X.hA hp2)⟩⟩ rfl rfl hv.1 rfl (lv_room hst) d ⟨by rw [hc1]; exact hcs.1, by rw [hc2]; exact hcs.2⟩) hS (fun q _ hq => zd_Ain hD hS X.hA hp2 q hq) (fun q hq => zd_Ain hD hS X.hA hp2 q hq) (fun q t H1 locs1 ht hvm hpo hB hz hkk hS1 => ?_)
  obtain ⟨hP1, hD1⟩ := zd_to (zd_raw' (Θ := zg_T Γ) (σ := σ)) (zd_post (Θ' := zR (zg_T Γ)) (σ' := σR) X rfl rfl hp2 hP hD hS ht hkk hB)
  exact h q.1 q.2 hpo H1 locs1 ls hP1 hD1 hS1 hv
end ZDUE
/-- the component's four tables at their addresses -/
def tbR (i : Int) : Int := ([10, 12, 14, 16, 18, 20, 22, 24, 26, 32, 36, 40, 44, 48, 52, 64, 72, 80, 88, 96, 104, 120, 132, 144, 8, 8, 12, 12, 16, 16] : List Int).getD i.toNat 0
def tbW (i : Int) : Int := ([18, 32, 26, 36, 36, 48] : List Int).getD i.toNat 0
def tbB (i : Int) : Int := ([1, 2, 1, 2, 2, 2] : List Int).getD i.toNat 0
def tbC (i : Int) : Int := ([5, 7, 10, 12, 14, 18, 20, 24, 28, 36, 42, 48, 56, 68, 84, 112, 144, 192, 224, 272, 336, 408, 496, 620, 7, 11, 14, 18, 24, 28] : List Int).getD i.toNat 0
def zTab (τ : Nat → Nat) : ZEx := fun A U H => zSA "ROWS" (τ 0) 30 tbR A U H ∧ zSA "WIDE" (τ 1) 6 tbW A U H ∧ zSA "BESIDE" (τ 2) 6 tbB A U H ∧ zSA "CHECKS" (τ 3) 30 tbC A U H
theorem zTab_go (τ : Nat → Nat) : ZExGo (zTab τ) := fun _ _ _ _ _ _ _ h hS hvm hAB => ⟨h.1.go hS hvm hAB, h.2.1.go hS hvm hAB, h.2.2.1.go hS hvm hAB, h.2.2.2.go hS hvm hAB⟩
