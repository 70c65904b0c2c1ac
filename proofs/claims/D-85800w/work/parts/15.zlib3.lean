/-! a method with handlers that always comes back -/
def ZMetH (l : Launch) (Θ : ZTh) (y : MethodName) (code : ByteArray) (nL : Nat) (ret : FieldType) (hh : List (Nat × Nat × Nat × Nat)) (fr lo mc ms : Nat) (av : List Value) (σ : ZS) (post : Int → ZS → Prop) : Prop :=
  ∀ sz : Nat, vx_Met l y (wsW_ y code nL (some ret) hh) { frames := fr, cells := mc, slots := ms, locals := lo } (zPre Θ sz σ av) (va_Qi (fun (r : Int32) (σ' : ZS) => ∃ x : Int, r = iz x ∧ post x σ') (zB Θ) (zt_own Θ sz)) (vx_X (fun (_ : Unit) => False) (fun _ _ _ => True) (zt_own Θ sz)) mc ms (zt_own Θ sz)
theorem ZMetH.of {l : Launch} {Θ : ZTh} {y : MethodName} {code : ByteArray} {nL : Nat} {ret : FieldType} {hh : List (Nat × Nat × Nat × Nat)} {fr lo mc ms : Nat} {av : List Value} {σ : ZS} {post : Int → ZS → Prop} (hy : plainName y.cls = true) (hlen : (lg_sl av).length ≤ nL)
    (walk : ∀ (Γ : ZG), ZX Γ code y.cls fr lo → ZCap Γ l Θ nL mc ms → ZRetI Γ code ret mc ms post → (zg_c Γ).exceptionTable.toList = tableOf hh → Z Γ 0 0 σ [] 0 (lv_args 0 av) []) : ZMetH l Θ y code nL ret hh fr lo mc ms av σ post := by
  intro sz
  refine vx_ofWH (cc := code) (maxL := nL) (ret := some ret) (hh := hh) hy rfl ?_
  intro p e s m args below meth c s₁ B hml hv
  obtain ⟨rfl, hsz, hP, hK, hD0, hNw, hSt⟩ := hv
  subst hsz
  have hts0 := atoms_spec (ws := wsW_ y code nL (some ret) hh) B.pre
  have hts : ∀ w ∈ lw_all, w.before _ s = true := fun w h => hts0 w (List.mem_cons_of_mem _ h)
  have htab := vx_table (x := y) B (hts0 _ List.mem_cons_self)
  have hown : s.vm.findClass y.cls = some m.cls := findClass_of_methodNamed B.named
  have hD : va_D (zt_own Θ s.heap.size) (zt_W Θ σ []) := hD0.weaken (fun j q hj _ => Or.inl ⟨j, (zt_nil hj).1, (zt_nil hj).2⟩)
  have hl := lv_entry av (n := nL) hlen
  rw [lg_entry_eq]
  generalize (lg_sl av ++ List.replicate (nL - (lg_sl av).length) Slot.unset).toArray = ls at hl ⊢
  have hr := B.returns
  have hlk := B.notSynchronized
  have hbx := B.exec
  have hbb := B.bytes
  let Γ : ZG := zMk p l e { frames := fr, cells := mc, slots := ms, locals := lo } s m av.toArray below meth c (vx_MQ below (va_Qi (fun (r : Int32) (σ' : ZS) => ∃ x : Int, r = iz x ∧ post x σ') (zB Θ) (zt_own Θ s.heap.size)) (vx_X (fun (_ : Unit) => False) (fun _ _ _ => True) (zt_own Θ s.heap.size)) av.toArray s mc ms (zt_own Θ s.heap.size)) (zt_own Θ s.heap.size) Θ nL
  have X : ZX Γ code y.cls fr lo := ⟨hbx, hbb, hml, hown, hts, hlk, hK, fun q h => Or.inr h, rfl, rfl, hNw, hSt⟩
  refine walk Γ X ⟨rfl, rfl, rfl, rfl, rfl⟩ (fun k n pc σ' xs lv x d hn hk hm hp => ?_) htab s.heap [] ls hP hD va_S.rf hl
  intro H locs ls' hP' hD' hS' hv'
  refine W.widen hk hm ?_
  exact vx_ret (W.zret hbx hbb hr hn (fun t ht hW => ⟨⟨iz x, σ', rfl, ⟨x, rfl, hp⟩, by unfold zB; rw [ht]; exact zt_P_nil hP'⟩, hS'.F ht⟩) hS'.2.2 d hlk)
section ZH
variable {Γ : ZG} {cc : ByteArray} {own : String} {fr lo : Nat} {k n : Nat} {σ : ZS} {xs : va_W} {pc : Nat} {lv : List (Nat × Value)} {st : List Value} {l : Launch} {nL mc0 ms0 : Nat}
theorem z_callVH' {C : String} {q0 ci index mc ms : Nat} {qc : vw_C} {ks : List Nat} {y : MethodName} {code : ByteArray} {nL1 f1 l1 : Nat} {ret : FieldType} {hh : List (Nat × Nat × Nat × Nat)} {As : List Value} {post : Int → ZS → Prop} {Θ : ZTh} (X : ZX Γ cc own fr lo) (K : ZCap Γ l Θ nL mc0 ms0) (hM : ZMetH l Θ y code nL1 ret hh f1 l1 mc ms (.ref (zt_ad Θ q0) :: As) σ post) (hq : q0 < zt_N Θ) (hL : zt_L Θ q0 = .inl (ci, ks)) (hc : (zt_cl Θ)[ci]? = some qc) (hC : qc.1 = C)
    (hw : GoodIn lw_all (wsV own index C y (wsW_ y code nL1 (some ret) hh))) (hd : y.cls = C ∧ y.cls ≠ "java/lang/invoke/MethodHandle" ∧ y.cls ≠ "java/lang/invoke/VarHandle" ∧ (parseMethodDescriptor y.desc).map (fun d => d.parameters.length) = some As.length) (hR : f1 + 1 ≤ fr ∧ 8 + (nL1 + 11) + l1 ≤ lo) (hcs : k + mc ≤ (zg_R Γ).cells ∧ n + ms ≤ (zg_R Γ).slots) (hst : (st.map fun v => v.category).sum ≤ 8) (d : decode cc pc = .ok (.invokevirtual index, 3)) {full : List Value} (hfull : full = As.reverse ++ .ref (zt_ad Θ q0) :: st)
    (h : ∀ (r : Int) (σ' : ZS), post r σ' → Z Γ (k + mc) (n + ms) σ' xs (pc + 3) lv (.int (iz r) :: st)) : Z Γ k n σ xs pc lv full := by
  obtain ⟨rfl, rfl, -⟩ := K
  subst hfull
  intro H locs ls hP hD hS hv
  have cw := vx_cwVW (R := zg_R Γ) (s := zg_s Γ) (args := zg_a Γ) (own := own) (C := C) (index := index) (y := y) (bytes := code) (maxL := nL1) (ret := some ret) (hh := hh) (rm := { frames := f1, cells := mc, slots := ms, locals := l1 }) (mc := mc) (ms := ms) As.length X.hts hw rfl rfl rfl hd (by rw [X.hfr, X.hlo]; exact hR)
  refine vx_calli (vx_runVX (zx_fix X) (hM H.size) cw (z_preV X hP hD hS hq hL hc hC) rfl rfl hv.1 rfl (lv_room hst) d hcs) hS (fun q _ hq => zt_own_in hD hS X.hA q hq) (fun q hq => zt_own_in hD hS X.hA q hq) (fun q _ hq => zt_own_in hD hS X.hA q hq) (fun E ce q9 u t H1 locs1 ht hvm hp => hp.elim) (fun r σ' t H1 locs1 ht hvm hp hB hz hkk hS1 => ?_)
  obtain ⟨x, rfl, hx⟩ := hp
  obtain ⟨hP1, hD1⟩ := z_back hP hD hkk ht hB
  exact h x σ' hx H1 locs1 ls hP1 hD1 hS1 hv
/-- the handler that takes no stream -/
theorem z_catch {a b hp ct : Nat} (X : ZX Γ cc own fr lo) (htab : (zg_c Γ).exceptionTable.toList = tableOf [(a, b, hp, ct)]) (hct : ct ≠ 0) (hcov : covers ⟨a, b, hp, ct⟩ pc = true) (hl : Cond.classLink own ct zXE ∈ lw_all) {q : Nat} (h : Z Γ k n σ xs hp lv [.ref q]) : ZThrow Γ k n σ xs pc lv st q := by
  intro H locs ls ce hP hD hS hv hce hcv hcl
  exact vx_catch X.hown [] ⟨a, b, hp, ct⟩ [] htab (fun z hz => by cases hz) hcov hct (X.hts _ hl) (va_Nw.use rfl (X.nw q997 rfl)) hce hcv hcl (h H locs ls hP hD hS hv)
end ZH
/-! an array of 16 ints beside the world: made, filled, handed over -/
abbrev zAr (ds : Nat → ClassId) (a : Nat) (f : Int → Int) : va_W := [(a, .inl (ds 0, 16, .inl fun j : Nat => iz (f (j : Int))))]
theorem zAr_at {Θ : ZTh} {σ : ZS} {ds : Nat → ClassId} {a : Nat} {f : Int → Int} : (zt_W Θ σ (zAr ds a f))[zt_N Θ]? = some (a, .inl (ds 0, 16, .inl fun j : Nat => iz (f (j : Int)))) := by
  rw [zt_ge (Nat.le_refl _), Nat.sub_self]
  rfl
section ZAR
variable {Γ : ZG} {cc : ByteArray} {own : String} {fr lo : Nat} {k n : Nat} {σ : ZS} {xs : va_W} {pc : Nat} {lv : List (Nat × Value)} {st : List Value} {l : Launch} {D : va_G} {ds : Nat → ClassId} {ad : Nat → Nat} {nL mc0 ms0 a : Nat} {f : Int → Int} {i v : Int}
theorem z_drop (h : Z Γ k n σ [] pc lv st) : Z Γ k n σ xs pc lv st := fun H locs ls hP hD hS hv => h H locs ls (zt_P_nil hP) ⟨fun i j p q hi hj => (by
    have h1 := (zt_nil hi).1
    have h2 := (zt_nil hj).1
    rw [zt_at h1] at hi
    rw [zt_at h2] at hj
    exact hD.1 i j p q (by rw [zt_at h1]; exact hi) (by rw [zt_at h2]; exact hj)), fun i q hi => (by
    have h1 := (zt_nil hi).1
    rw [zt_at h1] at hi
    exact hD.2 i q (by rw [zt_at h1]; exact hi))⟩ hS hv
theorem z_newI (X : ZX Γ cc own fr lo) (K : ZCap Γ l (ΘC D ds ad) nL mc0 ms0) (hq : Cond.arrayClass .int ∈ lw_all) (d : decode cc pc = .ok (.newarray .int, 2)) (hcs : k + 1 ≤ mc0 ∧ n + 16 ≤ ms0) (h : ∀ a : Nat, Z Γ (k + 1) (n + 16) σ (zAr ds a (fun _ => 0)) (pc + 2) lv (.ref a :: st)) : Z Γ k n σ [] pc lv (.int (iz 16) :: st) := by
  obtain ⟨rfl, hT, hn, hc1, hc2⟩ := K
  intro H locs ls hP hD hS hv
  have hK := X.hK
  rw [hT] at hK
  refine va_newaK X.hx X.hb (atype := .int) (X.hts _ hq) (g := F0 (zg_m Γ) pc ls (.int (iz 16) :: st)) rfl d rfl (N := 16) (by decide) rfl (by decide) (by rw [hc1]; exact hcs.1) (by rw [hc2]; exact hcs.2) rfl (fun H' cA h1 h2 h3 h4 h5 => ?_)
  have hds : cA = ds 0 := by
    have h6 := (hK.2 0 (ds 0, .int) rfl).2
    have h7 : (zg_s Γ).vm.findClass ("[" ++ (FieldType.int).toString) = some (ds 0) := h6
    have h8 : (zg_s Γ).vm.findClass ("[" ++ (FieldType.int).toString) = some cA := h5
    rw [h7] at h8
    exact (Option.some.inj h8).symm
  subst hds
  have hP' : va_P (zt_D (zg_T Γ)) (zt_cl (zg_T Γ)) (zt_W (zg_T Γ) σ (zAr ds H.size (fun _ => 0))) H' := by
    intro i q hi
    rcases Nat.lt_or_ge i (zt_N (zg_T Γ)) with hlt | hge
    · rw [zt_at hlt] at hi
      have h0 := hP i q (by rw [zt_at hlt]; exact hi)
      exact h0.kept (h3 _ h0.lt)
    · rw [zt_ge hge] at hi
      have hz : i - zt_N (zg_T Γ) = 0 := by
        have := (List.getElem?_eq_some_iff.mp hi).1
        simp at this
        omega
      rw [hz] at hi
      cases hi
      exact h1
  have hD' : va_D (zg_A Γ) (zt_W (zg_T Γ) σ (zAr ds H.size (fun _ => 0))) := by
    have := hD.push hP rfl (X.hA H.size hS.1) (e := .inl (ds 0, 16, .inl fun j : Nat => iz ((fun _ => (0 : Int)) (j : Int))))
    have e : zt_W (zg_T Γ) σ [] ++ [(H.size, Sum.inl (ds 0, 16, .inl fun j : Nat => iz ((fun _ => (0 : Int)) (j : Int))))] = zt_W (zg_T Γ) σ (zAr ds H.size (fun _ => 0)) := by
      unfold zt_W
      rw [List.append_nil]
    rw [e] at this
    exact this
  refine h H.size H' locs ls hP' hD' ⟨by rw [h2]; exact Nat.le_succ_of_le hS.1, fun q hq hA => ?_, hS.2.2⟩ hv
  rw [h3 q (Nat.lt_of_lt_of_le hq hS.1)]
  exact hS.2.1 q hq hA
theorem z_astX (X : ZX Γ cc own fr lo) (K : ZCap Γ l (ΘC D ds ad) nL mc0 ms0) (hi : 0 ≤ i ∧ i < 16) (d : decode cc pc = .ok (.iastore, 1)) (h : Z Γ k n σ (zAr ds a (fun j => if j = i then v else f j)) (pc + 1) lv st) : Z Γ k n σ (zAr ds a f) pc lv (.int (iz v) :: .int (iz i) :: .ref a :: st) := by
  obtain ⟨rfl, hT, hn, hc1, hc2⟩ := K
  intro H locs ls hP hD hS hv
  have hK := X.hK
  have ht : (zt_ty (zg_T Γ))[0]? = some (ds 0, .int) := by rw [hT]; rfl
  refine va_iast X.hx X.hb hK hP hD hS (zt_N (zg_T Γ)) 0 zAr_at ht (iz_vp_in hi.1 (by exact hi.2) (by decide)) d (fun H1 locs1 hP1 hD1 hS1 => ?_)
  rw [z_upd_row hi.1 (by exact hi.2) (by decide)] at hP1 hD1
  have e : (zt_W (zg_T Γ) σ (zAr ds a f)).set (zt_N (zg_T Γ)) (a, .inl (ds 0, 16, .inl fun j : Nat => iz ((fun i' => if i' = i then v else f i') (j : Int)))) = zt_W (zg_T Γ) σ (zAr ds a (fun j => if j = i then v else f j)) := by
    unfold zt_W
    rw [List.set_append_right _ _ (by rw [zw_len]; exact Nat.le_refl _), zw_len, Nat.sub_self]
    rfl
  exact h H1 locs1 ls (by rw [← e]; exact hP1) (by rw [← e]; exact hD1) hS1 hv
theorem z_aldX (X : ZX Γ cc own fr lo) (K : ZCap Γ l (ΘC D ds ad) nL mc0 ms0) (hi : 0 ≤ i ∧ i < 16) (d : decode cc pc = .ok (.iaload, 1)) (h : Z Γ k n σ (zAr ds a f) (pc + 1) lv (.int (iz (f i)) :: st)) : Z Γ k n σ (zAr ds a f) pc lv (.int (iz i) :: .ref a :: st) := by
  obtain ⟨rfl, hT, hn, hc1, hc2⟩ := K
  intro H locs ls hP hD hS hv
  have ht : (zt_ty (zg_T Γ))[0]? = some (ds 0, .int) := by rw [hT]; rfl
  refine va_iald X.hx X.hb X.hK hP (zt_N (zg_T Γ)) 0 zAr_at ht (iz_vp_in hi.1 (by exact hi.2) (by decide)) d ?_
  rw [iz_clamp (n := 16) hi.1 (by exact hi.2) (by decide), show ((i.toNat : Nat) : Int) = i from Int.toNat_of_nonneg hi.1]
  exact h H locs ls hP hD hS hv
theorem z_alenX (X : ZX Γ cc own fr lo) (K : ZCap Γ l (ΘC D ds ad) nL mc0 ms0) (d : decode cc pc = .ok (.arraylength, 1)) (h : Z Γ k n σ (zAr ds a f) (pc + 1) lv (.int (iz 16) :: st)) : Z Γ k n σ (zAr ds a f) pc lv (.ref a :: st) := by
  obtain ⟨rfl, hT, hn, hc1, hc2⟩ := K
  intro H locs ls hP hD hS hv
  have ht : (zt_ty (zg_T Γ))[0]? = some (ds 0, .int) := by rw [hT]; rfl
  exact va_alen X.hx X.hb X.hK hP (zt_N (zg_T Γ)) 0 zAr_at ht rfl d (h H locs ls hP hD hS hv)
/-- the contract of a method that is handed such an array -/
def zPreX (Θ : ZTh) (ds : Nat → ClassId) (sz : Nat) (σ : ZS) (a : Nat) (f : Int → Int) (av : List Value) : Array Value → State → Prop := va_Pc av (fun U => U.heap.size = sz ∧ va_P (zt_D Θ) (zt_cl Θ) (zt_W Θ σ (zAr ds a f)) U.heap ∧ va_K (zt_D Θ) (zt_cl Θ) (zt_ty Θ) U ∧ va_D (fun _ => True) (zt_W Θ σ (zAr ds a f)) ∧ zNw U ∧ zSt (fun q => zt_own Θ sz q ∨ q = a) U U.heap)
def ZMetA (l : Launch) (Θ : ZTh) (ds : Nat → ClassId) (y : MethodName) (code : ByteArray) (nL : Nat) (fr lo : Nat) (a : Nat) (f : Int → Int) (av : List Value) (σ : ZS) (post : ZS → Prop) : Prop :=
  ∀ sz : Nat, Met l y (ws_ y code nL none) { frames := fr, cells := 0, slots := 0, locals := lo } (zPreX Θ ds sz σ a f av) (va_Qv (fun (σ' : ZS) => post σ') (zB Θ) (fun q => zt_own Θ sz q ∨ q = a)) 0 0 (fun q => zt_own Θ sz q ∨ q = a)
theorem ZMetA.of {l : Launch} {Θ : ZTh} {ds : Nat → ClassId} {y : MethodName} {code : ByteArray} {nL : Nat} {fr lo : Nat} {a : Nat} {f : Int → Int} {av : List Value} {σ : ZS} {post : ZS → Prop} (hy : plainName y.cls = true) (hlen : (lg_sl av).length ≤ nL)
    (walk : ∀ (Γ : ZG), ZX Γ code y.cls fr lo → ZCap Γ l Θ nL 0 0 → ZRetV Γ code 0 0 post → Z Γ 0 0 σ (zAr ds a f) 0 (lv_args 0 av) []) : ZMetA l Θ ds y code nL fr lo a f av σ post := by
  intro sz
  refine Met.ofW (cc := code) (maxL := nL) (ret := none) hy rfl ?_
  intro p e s m args below meth c s₁ B hml hv
  obtain ⟨rfl, hsz, hP, hK, hD0, hNw, hSt⟩ := hv
  subst hsz
  have hts := atoms_spec (ws := ws_ y code nL none) B.pre
  have hts : ∀ w ∈ lw_all, w.before _ s = true := fun w h => hts w (List.mem_cons_of_mem _ h)
  have hown : s.vm.findClass y.cls = some m.cls := findClass_of_methodNamed B.named
  have hD : va_D (fun q => zt_own Θ s.heap.size q ∨ q = a) (zt_W Θ σ (zAr ds a f)) := hD0.weaken (fun j q hj _ => by
    rcases Nat.lt_or_ge j (zt_N Θ) with h | h
    · rw [zt_at h] at hj
      cases hj
      exact Or.inl (Or.inl ⟨j, h, rfl⟩)
    · rw [zt_ge h] at hj
      have hz : j - zt_N Θ = 0 := by
        have := (List.getElem?_eq_some_iff.mp hj).1
        simp at this
        omega
      rw [hz] at hj
      cases hj
      exact Or.inr rfl)
  have hl := lv_entry av (n := nL) hlen
  rw [lg_entry_eq]
  generalize (lg_sl av ++ List.replicate (nL - (lg_sl av).length) Slot.unset).toArray = ls at hl ⊢
  have hr := B.returns
  have hlk := B.notSynchronized
  have hbx := B.exec
  have hbb := B.bytes
  let Γ : ZG := zMk p l e { frames := fr, cells := 0, slots := 0, locals := lo } s m av.toArray below meth c (MQ below (va_Qv (fun (σ' : ZS) => post σ') (zB Θ) (fun q => zt_own Θ s.heap.size q ∨ q = a)) av.toArray s 0 0 (fun q => zt_own Θ s.heap.size q ∨ q = a)) (fun q => zt_own Θ s.heap.size q ∨ q = a) Θ nL
  have X : ZX Γ code y.cls fr lo := ⟨hbx, hbb, hml, hown, hts, hlk, hK, fun q h => Or.inl (Or.inr h), rfl, rfl, hNw, hSt⟩
  refine walk Γ X ⟨rfl, rfl, rfl, rfl, rfl⟩ (fun k n pc σ' xs lv d hk hm hp => ?_) s.heap [] ls hP hD va_S.rf hl
  intro H locs ls' hP' hD' hS' hv'
  refine W.widen hk hm ?_
  exact W.vret hbx hbb hr (fun t ht hW => ⟨⟨σ', rfl, hp, by unfold zB; rw [ht]; exact zt_P_nil hP'⟩, hS'.F ht⟩) hS'.2.2 d hlk
theorem z_callA' {C : String} {q0 ci index : Nat} {qc : vw_C} {ks : List Nat} {y : MethodName} {code : ByteArray} {nL1 f1 l1 : Nat} {post : ZS → Prop} (X : ZX Γ cc own fr lo) (K : ZCap Γ l (ΘC D ds ad) nL mc0 ms0) (hM : ZMetA l (ΘC D ds ad) ds y code nL1 f1 l1 a f [.ref (ad q0), .ref a] σ post) (hq : q0 < zt_N (ΘC D ds ad)) (hL : zt_L (ΘC D ds ad) q0 = .inl (ci, ks)) (hc : (zt_cl (ΘC D ds ad))[ci]? = some qc) (hC : qc.1 = C)
    (hw : GoodIn lw_all (wsV own index C y (ws_ y code nL1 none))) (hd : y.cls = C ∧ y.cls ≠ "java/lang/invoke/MethodHandle" ∧ y.cls ≠ "java/lang/invoke/VarHandle" ∧ (parseMethodDescriptor y.desc).map (fun d => d.parameters.length) = some 1) (hR : f1 + 1 ≤ fr ∧ 8 + (nL1 + 11) + l1 ≤ lo) (hcs : k ≤ mc0 ∧ n ≤ ms0) (hst : (st.map fun v => v.category).sum ≤ 8) (d : decode cc pc = .ok (.invokevirtual index, 3))
    (h : ∀ (σ' : ZS), post σ' → Z Γ k n σ' [] (pc + 3) lv st) : Z Γ k n σ (zAr ds a f) pc lv (.ref a :: .ref (ad q0) :: st) := by
  obtain ⟨rfl, hT, hn, hc1, hc2⟩ := K
  intro H locs ls hP hD hS hv
  rw [← hT] at hq hL hc
  have had : ad = zt_ad (zg_T Γ) := by rw [hT]; rfl
  rw [had]
  have cw : CallW (zg_R Γ) (zg_s Γ) (zg_a Γ) own C index y code nL1 none (ws_ y code nL1 none) { frames := f1, cells := 0, slots := 0, locals := l1 } 0 0 1 := cwV 1 X.hts hw rfl rfl rfl hd (by rw [X.hfr, X.hlo]; exact hR)
  have hAin : ∀ q, (zt_own (zg_T Γ) H.size q ∨ q = a) → zg_A Γ q := by
    rintro q (h1 | rfl)
    · exact zt_own_in hD hS X.hA q h1
    · exact hD.2 _ _ zAr_at
  have hM2 := hM H.size
  rw [← hT, had] at hM2
  have hpre : PreV (zg_s Γ) H C (zt_ad (zg_T Γ) q0) (zPreX (zg_T Γ) ds H.size σ a f [.ref (zt_ad (zg_T Γ) q0), .ref a]) [.ref a] := by
    refine ⟨fun A U g mk q => ?_, ?_, fun U hU hW => ⟨rfl, by rw [hU], by rw [hU]; exact hP, va_K.moved hW.alike X.hK, hD.weaken (fun _ _ _ _ => trivial), X.hNw.warm hW, by rw [hU]; exact X.hSt.go hS hW.alike hAin⟩⟩
    · obtain ⟨q0, q1, qP, qK, qD, qN, qS⟩ := q
      exact ⟨q0, q1, qP, va_K.moved (u := U) (U := U.calling g mk A) (Vm.Alike.refl U.vm) qK, qD, zNw.same (u := U) (U := U.calling g mk A) rfl qN, ⟨qS.1.moved (u := U) (U := U.calling g mk A) (Vm.Alike.refl U.vm), qS.2.moved (u := U) (U := U.calling g mk A) (Vm.Alike.refl U.vm)⟩⟩
    · have hg := zt_at (Θ := zg_T Γ) (σ := σ) (xs := zAr ds a f) hq
      rw [hL] at hg
      rw [← hC]
      exact va_recv X.hK hP hc hg
  refine va_callv (va_runV (As := [.ref a]) (zx_fix X) hM2 cw hpre rfl rfl hv.1 rfl (lv_room hst) d ⟨by rw [hc1]; exact hcs.1, by rw [hc2]; exact hcs.2⟩) hS (fun q _ hq => hAin q hq) hAin (fun σ' t H1 locs1 ht hvm hp hB hz hkk hS1 => ?_)
  have hP1 : va_P (zt_D (zg_T Γ)) (zt_cl (zg_T Γ)) (zt_W (zg_T Γ) σ' []) H1 := by
    unfold zB at hB
    rw [ht] at hB
    exact hB
  have hD1 : va_D (zg_A Γ) (zt_W (zg_T Γ) σ' []) := by
    have h0 := zt_D_any (σ' := σ') hD
    refine ⟨fun i j p q hi hj hpq => ?_, fun i q hi => ?_⟩
    · have h1 := (zt_nil hi).1
      have h2 := (zt_nil hj).1
      rw [zt_at h1] at hi
      rw [zt_at h2] at hj
      exact h0.1 i j p q (by rw [zt_at h1]; exact hi) (by rw [zt_at h2]; exact hj) hpq
    · have h1 := (zt_nil hi).1
      rw [zt_at h1] at hi
      exact h0.2 i q (by rw [zt_at h1]; exact hi)
  exact h σ' hp H1 locs1 ls hP1 hD1 hS1 hv
end ZAR
theorem z_kn {Γ : ZG} {k n k' n' pc : Nat} {σ : ZS} {xs : va_W} {lv : List (Nat × Value)} {st : List Value} (h1 : k = k') (h2 : n = n') (h : Z Γ k' n' σ xs pc lv st) : Z Γ k n σ xs pc lv st := by
  subst h1
  subst h2
  exact h
theorem zle16 {c : Nat} (h : c ≤ 300) : 16 * c ≤ 4800 := by omega
