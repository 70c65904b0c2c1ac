/-! ZLIB 2: several objects, nest mates' fields, references that may be null, inherited and abstract methods -/
def isSy (o : Nat) : Prop := 2 ≤ o ∧ o < 32
def isSt (o : Nat) : Prop := o = 45 ∨ o = 48
def isSe (o : Nat) : Prop := o = 53 ∨ o = 56
def isTh (o : Nat) : Prop := o = 53 ∨ o = 56 ∨ o = 59
def isEn (o : Nat) : Prop := o = 53 ∨ o = 56 ∨ o = 59 ∨ o = 62 ∨ o = 64
theorem isSe.th {o : Nat} (h : isSe o) : isTh o := by rcases h with h | h <;> simp [isTh, h]
theorem isSe.en {o : Nat} (h : isSe o) : isEn o := by rcases h with h | h <;> simp [isEn, h]
theorem isTh.en {o : Nat} (h : isTh o) : isEn o := by rcases h with h | h | h <;> simp [isEn, h]
theorem isSy_ix {i : Int} (h : 0 ≤ i ∧ i < 30) : isSy (2 + i.toNat) := ⟨by omega, by omega⟩
theorem isSy_nn {x : Int} (h : 2 ≤ x ∧ x < 32) : isSy x.toNat := ⟨by omega, by omega⟩
/-- the encodations' cells, by their places in the list -/
def encC (e : Int) : Nat := if e = 0 then 53 else if e = 1 then 56 else if e = 2 then 59 else if e = 3 then 62 else 64
theorem isEn_c (e : Int) : isEn (encC e) := by
  unfold encC
  split
  · exact Or.inl rfl
  · split
    · exact Or.inr (Or.inl rfl)
    · split
      · exact Or.inr (Or.inr (Or.inl rfl))
      · split
        · exact Or.inr (Or.inr (Or.inr (Or.inl rfl)))
        · exact Or.inr (Or.inr (Or.inr (Or.inr rfl)))
theorem zval_nn {ad : Nat → Nat} {x : Int} (h : 0 ≤ x) : zval ad 1 x = .ref (ad x.toNat) := by simp [zval, Int.not_lt.mpr h]
theorem zval_nat {ad : Nat → Nat} (q : Nat) : zval ad 1 (q : Int) = .ref (ad q) := by rw [zval_nn (Int.natCast_nonneg q)]; rfl
theorem zval_null {ad : Nat → Nat} {x : Int} (h : x < 0) : zval ad 1 x = .null := by simp [zval, h]
theorem zval_cat1 {ad : Nat → Nat} {x : Int} : (zval ad 1 x).category = 1 := by
  by_cases h : x < 0
  · rw [zval_null h]; rfl
  · rw [zval_nn (Int.not_lt.mp h)]; rfl
theorem z_cwD {R : Room} {s : State} {args : Array Value} {own C owner : String} {index maxL mc ms : Nat} {x y : MethodName} {bytes : ByteArray} {ret : Option FieldType} {Ts ws ws' : List Cond} {rm : Room} (n : Nat) (ht : ∀ w ∈ Ts, w.before args s = true) (hT : GoodIn Ts (va_wsU own index C owner x y ws)) (hw : ws = Cond.code y bytes maxL ret :: ws') (hrc : rm.cells = mc) (hrs : rm.slots = ms)
    (hz : va_Decl s ⟨owner, x.name, x.desc⟩) (hd : owner ≠ "java/lang/invoke/MethodHandle" ∧ owner ≠ "java/lang/invoke/VarHandle" ∧ (parseMethodDescriptor x.desc).map (fun d => d.parameters.length) = some n) (hR : rm.frames + 1 ≤ R.frames ∧ 8 + (maxL + 11) + rm.locals ≤ R.locals) : va_CU R s args own C owner index x y bytes maxL ret ws rm mc ms n := by
  have ok : ∀ w ∈ va_wsU own index C owner x y ws, w.before args s = true := fun w h => ht w (hT w h).1
  have hG : GoodIn Ts ws := fun w h => hT w (by unfold va_wsU; exact List.mem_append_right _ h)
  have hc : Cond.code y bytes maxL ret ∈ ws := by rw [hw]; exact List.mem_cons_self
  refine ⟨⟨hrc, hrs, hR.1, hR.2, pay_in ht hG, hc⟩, ht _ (hG _ hc).1, ok _ (by simp [va_wsU]), ⟨hd.1, hd.2.1⟩, fun sig h => ?_, ok _ (by simp [va_wsU]), ok _ (by simp [va_wsU]), hz, ok _ (by simp [va_wsU]), ok _ (by simp [va_wsU])⟩
  have h2 := hd.2.2
  rw [h] at h2
  exact (Option.some.inj h2).symm
section ZM2
variable {Γ : ZG} {cc : ByteArray} {own : String} {fr lo : Nat} {k n : Nat} {σ : ZS} {xs : va_W} {pc : Nat} {lv : List (Nat × Value)} {st : List Value} {a b : Int} {l : Launch} {Θ : ZTh} {nL nL0 mc0 ms0 : Nat}
theorem z_getN' (X : ZX Γ cc own fr lo) (K : ZCap Γ l Θ nL0 mc0 ms0) {ref C host : String} {T : u_T} {N0 ci index : Nat} {ks : List Nat} (hin : ∀ w ∈ u_ws C T N0, w ∈ lw_all) (q : Nat) (hq : q < zt_N Θ) (hL : zt_L Θ q = .inl (ci, ks)) (hc : (zt_cl Θ)[ci]? = some (C, T, N0)) (j : Nat) (hj : j < N0) (hlink : Cond.fieldLinkNest own index ref (T j).2.1 (T j).2.2.1 host ∈ lw_tbl) (hsame : ∀ x, (zg_s Γ).fieldFound? (T j).1 (T j).2.1 (T j).2.2.1 = some x → (zg_s Γ).fieldFound? ref (T j).2.1 (T j).2.2.1 = some x) {kd : Nat} (hkd : ks[j]? = some kd) (d : decode cc pc = .ok (.getfield index, 3)) (h : Z Γ k n σ xs (pc + 3) lv (zval (zt_ad Θ) kd (σ q (j : Int)) :: st)) : Z Γ k n σ xs pc lv (.ref (zt_ad Θ q) :: st) := by
  obtain ⟨rfl, rfl, -⟩ := K
  intro H locs ls hP hD hS hv
  have hg := zw_get (tys := zt_ty (zg_T Γ)) (ad := zt_ad (zg_T Γ)) (L := zt_L (zg_T Γ)) (σ := σ) (xs := xs) hq
  rw [hL] at hg
  exact va_getN X.hx X.hb X.hts hin X.hown X.hK hP q hg hc j hj (va_Nw.use rfl (X.nw hlink rfl)) hsame (zfs_get hkd) d (h H locs ls hP hD hS hv)
theorem z_putN' (X : ZX Γ cc own fr lo) (K : ZCap Γ l Θ nL0 mc0 ms0) {ref C host : String} {T : u_T} {N0 ci index : Nat} {ks : List Nat} (hin : ∀ w ∈ u_ws C T N0, w ∈ lw_all) (ty0 : Nat → FieldType) (hty : ∀ k, k < N0 → parseFieldDescriptor (T k).2.2.1 = some (ty0 k)) (hnm : ∀ a, a < N0 → ∀ b, b < N0 → a ≠ b → (T a).2.1 ≠ (T b).2.1) (q : Nat) (hq : q < zt_N Θ) (hL : zt_L Θ q = .inl (ci, ks)) (hc : (zt_cl Θ)[ci]? = some (C, T, N0)) (j : Nat) (hj : j < N0) (hlink : Cond.fieldLinkNest own index ref (T j).2.1 (T j).2.2.1 host ∈ lw_tbl) (hsame : ∀ x, (zg_s Γ).fieldFound? (T j).1 (T j).2.1 (T j).2.2.1 = some x → (zg_s Γ).fieldFound? ref (T j).2.1 (T j).2.2.1 = some x) (hfin : (T j).2.2.2 = false) {ty : FieldType} {v : Int} {kd : Nat} (hd : parseFieldDescriptor (T j).2.2.1 = some ty) (hnr : narrow ty (zval (zt_ad Θ) kd v) = zval (zt_ad Θ) kd v) (hfit : fits ty (zval (zt_ad Θ) kd v) = true) (hkd : ks[j]? = some kd) (d : decode cc pc = .ok (.putfield index, 3)) (h : ∀ σ', σ' = zst σ q (j : Int) v → Z Γ k n σ' xs (pc + 3) lv st) : Z Γ k n σ xs pc lv (zval (zt_ad Θ) kd v :: .ref (zt_ad Θ q) :: st) := by
  obtain ⟨rfl, rfl, -⟩ := K
  intro H locs ls hP hD hS hv
  have hg := zw_get (tys := zt_ty (zg_T Γ)) (ad := zt_ad (zg_T Γ)) (L := zt_L (zg_T Γ)) (σ := σ) (xs := xs) hq
  rw [hL] at hg
  have hs := zw_set (tys := zt_ty (zg_T Γ)) (ad := zt_ad (zg_T Γ)) (L := zt_L (zg_T Γ)) (σ := σ) (σ' := zst σ q (j : Int) v) (xs := xs) hq (fun q' hq' => zst_row hq')
  rw [hL, zst_fun] at hs
  refine va_putN X.hx X.hb X.hts hin ty0 hty hnm X.hown X.hK hP hD hS q hg hc j hj (va_Nw.use rfl (X.nw hlink rfl)) hsame hfin hd hnr hfit (by rw [zfs_len]; exact (List.getElem?_eq_some_iff.mp hkd).1) d (fun H1 locs1 hP1 hD1 hS1 => ?_)
  rw [zfs_set hkd] at hP1 hD1
  have e : zt_W (zg_T Γ) (zst σ q (j : Int) v) xs = _ := hs.symm
  exact h _ rfl H1 locs1 ls (by rw [e]; exact hP1) (by rw [e]; exact hD1) hS1 hv
theorem zE_rar {tys : List (ClassId × FieldType)} {ad : Nat → Nat} {c : ZC} {f : Int → Int} {t0 : Nat} {ts : List Nat} {C : String} (hL : c = .inr (.inr (t0, ts))) (ht : (tys[t0]?).map (fun q => q.2) = some (.object C)) : ∃ cA, tys[t0]? = some (cA, .object C) ∧ zE tys ad c f = .inl (cA, ts.length, .inr (.inr (.inr (.inr fun j => (ts[j]?).map ad)))) := by
  subst hL
  cases h : tys[t0]? with
  | none => rw [h] at ht; cases ht
  | some z =>
    obtain ⟨cA, ty'⟩ := z
    rw [h] at ht
    cases ht
    exact ⟨cA, rfl, by simp [zE, List.getD, h]⟩
theorem z_aldR' (X : ZX Γ cc own fr lo) (K : ZCap Γ l Θ nL0 mc0 ms0) {t0 : Nat} {ts : List Nat} {C : String} (q : Nat) (hq : q < zt_N Θ) (hL : zt_L Θ q = .inr (.inr (t0, ts))) (ht : ((zt_ty Θ)[t0]?).map (fun q => q.2) = some (.object C)) (hn : ts.length < 2147483648) {i : Int} {r : Nat} (d : decode cc pc = .ok (.aaload, 1)) (hi : 0 ≤ i ∧ i < (ts.length : Int)) (hr : ts[i.toNat]? = some r) (h : Z Γ k n σ xs (pc + 1) lv (.ref (zt_ad Θ r) :: st)) : Z Γ k n σ xs pc lv (.int (iz i) :: .ref (zt_ad Θ q) :: st) := by
  obtain ⟨rfl, rfl, -⟩ := K
  intro H locs ls hP hD hS hv
  obtain ⟨cA, h1, h2⟩ := zE_rar (f := σ q) (ad := zt_ad (zg_T Γ)) hL ht
  have hg := zw_get (tys := zt_ty (zg_T Γ)) (ad := zt_ad (zg_T Γ)) (L := zt_L (zg_T Γ)) (σ := σ) (xs := xs) hq
  rw [h2] at hg
  refine va_aldq X.hx X.hb X.hK hP q t0 hg h1 (iz_vp_in hi.1 hi.2 hn) d ?_
  rw [iz_clamp hi.1 hi.2 hn, hr]
  exact h H locs ls hP hD hS hv
theorem z_alen' (X : ZX Γ cc own fr lo) (K : ZCap Γ l Θ nL0 mc0 ms0) {t0 N0 : Nat} {ty : FieldType} (q : Nat) (hq : q < zt_N Θ) (hL : zt_L Θ q = .inr (.inl (t0, N0))) (ht : ((zt_ty Θ)[t0]?).map (fun q => q.2) = some ty) {v : Int} (hv : v = (N0 : Int)) (d : decode cc pc = .ok (.arraylength, 1)) (h : Z Γ k n σ xs (pc + 1) lv (.int (iz v) :: st)) : Z Γ k n σ xs pc lv (.ref (zt_ad Θ q) :: st) := by
  obtain ⟨rfl, rfl, -⟩ := K
  subst hv
  intro H locs ls hP hD hS hv
  obtain ⟨cA, h1, h2⟩ := zE_arr (f := σ q) (ad := zt_ad (zg_T Γ)) hL ht
  have hg := zw_get (tys := zt_ty (zg_T Γ)) (ad := zt_ad (zg_T Γ)) (L := zt_L (zg_T Γ)) (σ := σ) (xs := xs) hq
  rw [h2] at hg
  exact va_alen X.hx X.hb X.hK hP q t0 hg h1 rfl d (h H locs ls hP hD hS hv)
theorem z_null (X : ZX Γ cc own fr lo) (d : decode cc pc = .ok (.aconst_null, 1)) (h : Z Γ k n σ xs (pc + 1) lv (.null :: st)) : Z Γ k n σ xs pc lv st := fun H locs ls hP hD hS hv => lv_null X.hx X.hb d (h H locs ls hP hD hS hv)
theorem z_ifnonnullQ (X : ZX Γ cc own fr lo) {ad : Nat → Nat} {x : Int} {off : Int} (tgt : Nat) (d : decode cc pc = .ok (.ifnonnull off, 3)) (ht : (pc : Int) + off = (tgt : Int)) (kt : 0 ≤ x → Z Γ k n σ xs tgt lv st) (kf : x < 0 → Z Γ k n σ xs (pc + 3) lv st) : Z Γ k n σ xs pc lv (zval ad 1 x :: st) := by
  by_cases h : x < 0
  · rw [zval_null h]
    exact fun H locs ls hP hD hS hv => lv_ifnonnullN X.hx X.hb d (kf h H locs ls hP hD hS hv)
  · rw [zval_nn (Int.not_lt.mp h)]
    exact fun H locs ls hP hD hS hv => lv_ifnonnull X.hx X.hb d ht (kt (Int.not_lt.mp h) H locs ls hP hD hS hv)
theorem z_ifnullQ (X : ZX Γ cc own fr lo) {ad : Nat → Nat} {x : Int} {off : Int} (tgt : Nat) (d : decode cc pc = .ok (.ifnull off, 3)) (ht : (pc : Int) + off = (tgt : Int)) (kt : x < 0 → Z Γ k n σ xs tgt lv st) (kf : 0 ≤ x → Z Γ k n σ xs (pc + 3) lv st) : Z Γ k n σ xs pc lv (zval ad 1 x :: st) := by
  by_cases h : x < 0
  · rw [zval_null h]
    exact fun H locs ls hP hD hS hv => lv_ifnullN X.hx X.hb d ht (kt h H locs ls hP hD hS hv)
  · rw [zval_nn (Int.not_lt.mp h)]
    exact fun H locs ls hP hD hS hv => lv_ifnull X.hx X.hb d (kf (Int.not_lt.mp h) H locs ls hP hD hS hv)
theorem zval_inj {σ : ZS} {A : Nat → Prop} {i j : Nat} (hD : va_D A (zt_W Θ σ xs)) (hi : i < zt_N Θ) (hj : j < zt_N Θ) (h : zt_ad Θ i = zt_ad Θ j) : i = j := hD.1 i j _ _ (zt_at hi) (zt_at hj) h
theorem z_acmp_neQ (X : ZX Γ cc own fr lo) (K : ZCap Γ l Θ nL0 mc0 ms0) {x : Int} {q : Nat} {off : Int} (tgt : Nat) (d : decode cc pc = .ok (.if_acmp .ne off, 3)) (ht : (pc : Int) + off = (tgt : Int)) (hq : q < zt_N Θ) (hx : x < (zt_N Θ : Int)) (kt : ¬ x = (q : Int) → Z Γ k n σ xs tgt lv st) (kf : x = (q : Int) → Z Γ k n σ xs (pc + 3) lv st) : Z Γ k n σ xs pc lv (.ref (zt_ad Θ q) :: zval (zt_ad Θ) 1 x :: st) := by
  obtain ⟨rfl, rfl, -⟩ := K
  intro H locs ls hP hD hS hv
  by_cases h : x < 0
  · rw [zval_null h]
    exact lv_acmp_ne (rx := none) (ry := some (zt_ad (zg_T Γ) q)) X.hx X.hb d ht (fun _ => kt (by omega) H locs ls hP hD hS hv) (fun e => by cases e)
  · have h0 := Int.not_lt.mp h
    rw [zval_nn h0]
    refine lv_acmp_ne (rx := some (zt_ad (zg_T Γ) x.toNat)) (ry := some (zt_ad (zg_T Γ) q)) X.hx X.hb d ht (fun e => kt (fun z => e ?_) H locs ls hP hD hS hv) (fun e => kf ?_ H locs ls hP hD hS hv)
    · subst z; rfl
    · have := zval_inj hD (by omega) hq (Option.some.inj e)
      omega
theorem z_aload_nQ (X : ZX Γ cc own fr lo) {ad : Nat → Nat} {j : Fin 4} {x : Int} (p0 : Nat) (d : decode cc pc = .ok (.aload_n j, 1)) (hl : lv[p0]? = some ((j : Nat), zval ad 1 x)) (h : Z Γ k n σ xs (pc + 1) lv (zval ad 1 x :: st)) : Z Γ k n σ xs pc lv st := by
  by_cases hx : x < 0
  · rw [zval_null hx] at hl h
    exact fun H locs ls hP hD hS hv => lv_aload_nN X.hx X.hb d rfl (lv_at hv p0 hl) (h H locs ls hP hD hS hv)
  · rw [zval_nn (Int.not_lt.mp hx)] at hl h
    exact z_aload_n X p0 d hl h
theorem z_aload_nR (X : ZX Γ cc own fr lo) {ad : Nat → Nat} {j : Fin 4} {x : Int} (p0 : Nat) (d : decode cc pc = .ok (.aload_n j, 1)) (hl : lv[p0]? = some ((j : Nat), zval ad 1 x)) (hx : 0 ≤ x) (h : Z Γ k n σ xs (pc + 1) lv (.ref (ad x.toNat) :: st)) : Z Γ k n σ xs pc lv st := by
  rw [zval_nn hx] at hl
  exact z_aload_n X p0 d hl h
theorem z_astore_nK (X : ZX Γ cc own fr lo) (K : ZCap Γ l Θ nL mc0 ms0) {j : Fin 4} {x : Nat} {lv' : List (Nat × Value)} (d : decode cc pc = .ok (.astore_n j, 1)) (hn : Nat.blt (j : Nat) nL = true) (hl : ((j : Nat), Value.ref x) :: lv.filter (fun q => !(q.1 == (j : Nat)) && !(q.1 + 1 == (j : Nat) && q.2.category == 2)) = lv') (h : Z Γ k n σ xs (pc + 1) lv' st) : Z Γ k n σ xs pc lv (.ref x :: st) := z_astore_n X d (by rw [K.2.2.1]; exact Nat.le_of_ble_eq_true hn) hl h
theorem z_astoreK (X : ZX Γ cc own fr lo) (K : ZCap Γ l Θ nL mc0 ms0) {j : Nat} {x : Nat} {lv' : List (Nat × Value)} (d : decode cc pc = .ok (.astore j, 2)) (hn : Nat.blt j nL = true) (hl : (j, Value.ref x) :: lv.filter (fun q => !(q.1 == j) && !(q.1 + 1 == j && q.2.category == 2)) = lv') (h : Z Γ k n σ xs (pc + 2) lv' st) : Z Γ k n σ xs pc lv (.ref x :: st) := z_astore X d (by rw [K.2.2.1]; exact Nat.le_of_ble_eq_true hn) hl h
/-- storing a reference into a local that is known as one that may be null -/
theorem z_astore_nq (X : ZX Γ cc own fr lo) (K : ZCap Γ l Θ nL mc0 ms0) {ad : Nat → Nat} {j : Fin 4} {q : Nat} {x : Int} {lv' : List (Nat × Value)} (d : decode cc pc = .ok (.astore_n j, 1)) (hx : x = (q : Int)) (hn : Nat.blt (j : Nat) nL = true) (hl : ((j : Nat), zval ad 1 x) :: lv.filter (fun q => !(q.1 == (j : Nat)) && !(q.1 + 1 == (j : Nat) && q.2.category == 2)) = lv') (h : Z Γ k n σ xs (pc + 1) lv' st) : Z Γ k n σ xs pc lv (.ref (ad q) :: st) := by
  subst hx
  rw [zval_nat] at hl
  exact z_astore_nK X K d hn hl h
theorem z_astore_n0 (X : ZX Γ cc own fr lo) (K : ZCap Γ l Θ nL mc0 ms0) {ad : Nat → Nat} {j : Fin 4} {x : Int} {lv' : List (Nat × Value)} (d : decode cc pc = .ok (.astore_n j, 1)) (hx : x < 0) (hn : Nat.blt (j : Nat) nL = true) (hl : ((j : Nat), zval ad 1 x) :: lv.filter (fun q => !(q.1 == (j : Nat)) && !(q.1 + 1 == (j : Nat) && q.2.category == 2)) = lv') (h : Z Γ k n σ xs (pc + 1) lv' st) : Z Γ k n σ xs pc lv (.null :: st) := by
  rw [zval_null hx] at hl
  exact fun H locs ls hP hD hS hv => lv_astore_nN X.hx X.hb d rfl hv (by rw [K.2.2.1]; exact Nat.le_of_ble_eq_true hn) hl (fun ls' hv' => h H locs ls' hP hD hS hv')
theorem z_callUI {C owner : String} {q0 ci index mc ms : Nat} {qc : vw_C} {ks : List Nat} {x y : MethodName} {code : ByteArray} {nL1 f1 l1 : Nat} {ret : FieldType} {As : List Value} {post : Int → ZS → Prop} (X : ZX Γ cc own fr lo) (hM : ZMetI (zg_l Γ) (zg_T Γ) y code nL1 ret f1 l1 mc ms (.ref (zt_ad (zg_T Γ) q0) :: As) σ post) (hq : q0 < zt_N (zg_T Γ)) (hL : zt_L (zg_T Γ) q0 = .inl (ci, ks)) (hc : (zt_cl (zg_T Γ))[ci]? = some qc) (hC : qc.1 = C)
    (hw : GoodIn lw_all (va_wsU own index C owner x y (ws_ y code nL1 (some ret)))) (hz : va_Decl (zg_s Γ) ⟨owner, x.name, x.desc⟩) (hd : owner ≠ "java/lang/invoke/MethodHandle" ∧ owner ≠ "java/lang/invoke/VarHandle" ∧ (parseMethodDescriptor x.desc).map (fun d => d.parameters.length) = some As.length) (hR : f1 + 1 ≤ fr ∧ 8 + (nL1 + 11) + l1 ≤ lo) (hcs : k + mc ≤ (zg_R Γ).cells ∧ n + ms ≤ (zg_R Γ).slots) (hst : (st.map fun v => v.category).sum ≤ 8) (d : decode cc pc = .ok (.invokevirtual index, 3)) {full : List Value} (hfull : full = As.reverse ++ .ref (zt_ad (zg_T Γ) q0) :: st)
    (h : ∀ (r : Int) (σ' : ZS), post r σ' → Z Γ (k + mc) (n + ms) σ' xs (pc + 3) lv (.int (iz r) :: st)) : Z Γ k n σ xs pc lv full := fun H locs ls hP hD hS hv => by
  subst hfull
  have cw : va_CU (zg_R Γ) (zg_s Γ) (zg_a Γ) own C owner index x y code nL1 (some ret) (ws_ y code nL1 (some ret)) { frames := f1, cells := mc, slots := ms, locals := l1 } mc ms As.length := z_cwD As.length X.hts hw rfl rfl rfl hz hd (by rw [X.hfr, X.hlo]; exact hR)
  refine va_calli (va_runU (zx_fix X) (hM H.size) cw (z_preV X hP hD hS hq hL hc hC) rfl rfl hv.1 rfl (lv_room hst) d hcs) hS (fun q _ hq => zt_own_in hD hS X.hA q hq) (fun q hq => zt_own_in hD hS X.hA q hq) (fun r σ' t H1 locs1 ht hvm hp hB hz hkk hS1 => ?_)
  obtain ⟨x, rfl, hx⟩ := hp
  obtain ⟨hP1, hD1⟩ := z_back hP hD hkk ht hB
  exact h x σ' hx H1 locs1 ls hP1 hD1 hS1 hv
theorem z_callUV {C owner : String} {q0 ci index mc ms : Nat} {qc : vw_C} {ks : List Nat} {x y : MethodName} {code : ByteArray} {nL1 f1 l1 : Nat} {As : List Value} {post : ZS → Prop} (X : ZX Γ cc own fr lo) (hM : ZMetV (zg_l Γ) (zg_T Γ) y code nL1 f1 l1 mc ms (.ref (zt_ad (zg_T Γ) q0) :: As) σ post) (hq : q0 < zt_N (zg_T Γ)) (hL : zt_L (zg_T Γ) q0 = .inl (ci, ks)) (hc : (zt_cl (zg_T Γ))[ci]? = some qc) (hC : qc.1 = C)
    (hw : GoodIn lw_all (va_wsU own index C owner x y (ws_ y code nL1 none))) (hz : va_Decl (zg_s Γ) ⟨owner, x.name, x.desc⟩) (hd : owner ≠ "java/lang/invoke/MethodHandle" ∧ owner ≠ "java/lang/invoke/VarHandle" ∧ (parseMethodDescriptor x.desc).map (fun d => d.parameters.length) = some As.length) (hR : f1 + 1 ≤ fr ∧ 8 + (nL1 + 11) + l1 ≤ lo) (hcs : k + mc ≤ (zg_R Γ).cells ∧ n + ms ≤ (zg_R Γ).slots) (hst : (st.map fun v => v.category).sum ≤ 8) (d : decode cc pc = .ok (.invokevirtual index, 3)) {full : List Value} (hfull : full = As.reverse ++ .ref (zt_ad (zg_T Γ) q0) :: st)
    (h : ∀ (σ' : ZS), post σ' → Z Γ (k + mc) (n + ms) σ' xs (pc + 3) lv st) : Z Γ k n σ xs pc lv full := fun H locs ls hP hD hS hv => by
  subst hfull
  have cw : va_CU (zg_R Γ) (zg_s Γ) (zg_a Γ) own C owner index x y code nL1 none (ws_ y code nL1 none) { frames := f1, cells := mc, slots := ms, locals := l1 } mc ms As.length := z_cwD As.length X.hts hw rfl rfl rfl hz hd (by rw [X.hfr, X.hlo]; exact hR)
  refine va_callv (va_runU (zx_fix X) (hM H.size) cw (z_preV X hP hD hS hq hL hc hC) rfl rfl hv.1 rfl (lv_room hst) d hcs) hS (fun q _ hq => zt_own_in hD hS X.hA q hq) (fun q hq => zt_own_in hD hS X.hA q hq) (fun σ' t H1 locs1 ht hvm hp hB hz hkk hS1 => ?_)
  obtain ⟨hP1, hD1⟩ := z_back hP hD hkk ht hB
  exact h σ' hp H1 locs1 ls hP1 hD1 hS1 hv
theorem z_callSV {index mc ms : Nat} {y : MethodName} {code : ByteArray} {nL1 f1 l1 : Nat} {As : List Value} {post : ZS → Prop} (X : ZX Γ cc own fr lo) (hM : ZMetV (zg_l Γ) (zg_T Γ) y code nL1 f1 l1 mc ms As σ post)
    (hw : GoodIn lw_all (va_wsS own index y (ws_ y code nL1 none))) (hd : y.cls ≠ "java/lang/invoke/MethodHandle" ∧ y.cls ≠ "java/lang/invoke/VarHandle" ∧ (parseMethodDescriptor y.desc).map (fun d => d.parameters.length) = some As.length) (hR : f1 + 1 ≤ fr ∧ 8 + (nL1 + 11) + l1 ≤ lo) (hcs : k + mc ≤ (zg_R Γ).cells ∧ n + ms ≤ (zg_R Γ).slots) (hst : (st.map fun v => v.category).sum ≤ 8) (d : decode cc pc = .ok (.invokestatic index, 3)) {full : List Value} (hfull : full = As.reverse ++ st)
    (h : ∀ (σ' : ZS), post σ' → Z Γ (k + mc) (n + ms) σ' xs (pc + 3) lv st) : Z Γ k n σ xs pc lv full := fun H locs ls hP hD hS hv => by
  subst hfull
  have cw := va_cwS (R := zg_R Γ) (rm := { frames := f1, cells := mc, slots := ms, locals := l1 }) (mc := mc) (ms := ms) As.length X.hts hw rfl rfl rfl hd (by rw [X.hfr, X.hlo]; exact hR)
  refine va_callv (va_runS (zx_fix X) (hM H.size) cw (z_preS X hP hD hS) rfl rfl hv.1 rfl (lv_room hst) d hcs) hS (fun q _ hq => zt_own_in hD hS X.hA q hq) (fun q hq => zt_own_in hD hS X.hA q hq) (fun σ' t H1 locs1 ht hvm hp hB hz hkk hS1 => ?_)
  obtain ⟨hP1, hD1⟩ := z_back hP hD hkk ht hB
  exact h σ' hp H1 locs1 ls hP1 hD1 hS1 hv
theorem z_callUI' {C owner : String} {q0 ci index mc ms : Nat} {qc : vw_C} {ks : List Nat} {x y : MethodName} {code : ByteArray} {nL1 f1 l1 : Nat} {ret : FieldType} {As : List Value} {post : Int → ZS → Prop} (X : ZX Γ cc own fr lo) (K : ZCap Γ l Θ nL0 mc0 ms0) (hM : ZMetI l Θ y code nL1 ret f1 l1 mc ms (.ref (zt_ad Θ q0) :: As) σ post) (hq : q0 < zt_N Θ) (hL : zt_L Θ q0 = .inl (ci, ks)) (hc : (zt_cl Θ)[ci]? = some qc) (hC : qc.1 = C)
    (hw : GoodIn lw_all (va_wsU own index C owner x y (ws_ y code nL1 (some ret)))) (hz : va_Decl (zg_s Γ) ⟨owner, x.name, x.desc⟩) (hd : owner ≠ "java/lang/invoke/MethodHandle" ∧ owner ≠ "java/lang/invoke/VarHandle" ∧ (parseMethodDescriptor x.desc).map (fun d => d.parameters.length) = some As.length) (hR : f1 + 1 ≤ fr ∧ 8 + (nL1 + 11) + l1 ≤ lo) (hcs : k + mc ≤ (zg_R Γ).cells ∧ n + ms ≤ (zg_R Γ).slots) (hst : (st.map fun v => v.category).sum ≤ 8) (d : decode cc pc = .ok (.invokevirtual index, 3)) {full : List Value} (hfull : full = As.reverse ++ .ref (zt_ad Θ q0) :: st)
    (h : ∀ (r : Int) (σ' : ZS), post r σ' → Z Γ (k + mc) (n + ms) σ' xs (pc + 3) lv (.int (iz r) :: st)) : Z Γ k n σ xs pc lv full := by
  obtain ⟨rfl, rfl, -⟩ := K
  exact z_callUI X hM hq hL hc hC hw hz hd hR hcs hst d hfull h
theorem z_callUV' {C owner : String} {q0 ci index mc ms : Nat} {qc : vw_C} {ks : List Nat} {x y : MethodName} {code : ByteArray} {nL1 f1 l1 : Nat} {As : List Value} {post : ZS → Prop} (X : ZX Γ cc own fr lo) (K : ZCap Γ l Θ nL0 mc0 ms0) (hM : ZMetV l Θ y code nL1 f1 l1 mc ms (.ref (zt_ad Θ q0) :: As) σ post) (hq : q0 < zt_N Θ) (hL : zt_L Θ q0 = .inl (ci, ks)) (hc : (zt_cl Θ)[ci]? = some qc) (hC : qc.1 = C)
    (hw : GoodIn lw_all (va_wsU own index C owner x y (ws_ y code nL1 none))) (hz : va_Decl (zg_s Γ) ⟨owner, x.name, x.desc⟩) (hd : owner ≠ "java/lang/invoke/MethodHandle" ∧ owner ≠ "java/lang/invoke/VarHandle" ∧ (parseMethodDescriptor x.desc).map (fun d => d.parameters.length) = some As.length) (hR : f1 + 1 ≤ fr ∧ 8 + (nL1 + 11) + l1 ≤ lo) (hcs : k + mc ≤ (zg_R Γ).cells ∧ n + ms ≤ (zg_R Γ).slots) (hst : (st.map fun v => v.category).sum ≤ 8) (d : decode cc pc = .ok (.invokevirtual index, 3)) {full : List Value} (hfull : full = As.reverse ++ .ref (zt_ad Θ q0) :: st)
    (h : ∀ (σ' : ZS), post σ' → Z Γ (k + mc) (n + ms) σ' xs (pc + 3) lv st) : Z Γ k n σ xs pc lv full := by
  obtain ⟨rfl, rfl, -⟩ := K
  exact z_callUV X hM hq hL hc hC hw hz hd hR hcs hst d hfull h
theorem z_callSV' {index mc ms : Nat} {y : MethodName} {code : ByteArray} {nL1 f1 l1 : Nat} {As : List Value} {post : ZS → Prop} (X : ZX Γ cc own fr lo) (K : ZCap Γ l Θ nL0 mc0 ms0) (hM : ZMetV l Θ y code nL1 f1 l1 mc ms As σ post)
    (hw : GoodIn lw_all (va_wsS own index y (ws_ y code nL1 none))) (hd : y.cls ≠ "java/lang/invoke/MethodHandle" ∧ y.cls ≠ "java/lang/invoke/VarHandle" ∧ (parseMethodDescriptor y.desc).map (fun d => d.parameters.length) = some As.length) (hR : f1 + 1 ≤ fr ∧ 8 + (nL1 + 11) + l1 ≤ lo) (hcs : k + mc ≤ (zg_R Γ).cells ∧ n + ms ≤ (zg_R Γ).slots) (hst : (st.map fun v => v.category).sum ≤ 8) (d : decode cc pc = .ok (.invokestatic index, 3)) {full : List Value} (hfull : full = As.reverse ++ st)
    (h : ∀ (σ' : ZS), post σ' → Z Γ (k + mc) (n + ms) σ' xs (pc + 3) lv st) : Z Γ k n σ xs pc lv full := by
  obtain ⟨rfl, rfl, -⟩ := K
  exact z_callSV X hM hw hd hR hcs hst d hfull h
theorem z_mmin (X : ZX Γ cc own fr lo) {index : Nat} (h1 : Cond.methodLink own index Lib.Math.min.name ∈ lw_all) (h2 : Cond.static Lib.Math.min.name ∈ lw_all) (h3 : Cond.initialized "java/lang/Math" ∈ lw_all) (h4 : Cond.code Lib.Math.min.name Lib.Math.min.code 2 (some .int) ∈ lw_all) (hf : Nat.ble 1 fr = true) (hl : (st.map fun v => v.category).sum + 13 ≤ lo) (hcs : k ≤ (zg_R Γ).cells ∧ n ≤ (zg_R Γ).slots) (hA : InR a) (hB : InR b) (d : decode cc pc = .ok (.invokestatic index, 3)) (h : Z Γ k n σ xs (pc + 3) lv (.int (iz (min a b)) :: st)) : Z Γ k n σ xs pc lv (.int (iz b) :: .int (iz a) :: st) := fun H locs ls hP hD hS hv => by
  refine va_mmin X.hx X.hb (X.hml.trans hv.1.symm) X.hown (X.hts _ h1) (X.hts _ h2) (X.hts _ h3) (X.hts _ h4) (by rw [X.hfr]; exact Nat.le_of_ble_eq_true hf) (by rw [X.hlo]; exact hl) hcs.1 hcs.2 d ?_
  have e : (if iz b < iz a then iz b else iz a) = iz (min a b) := by
    by_cases q : b < a
    · rw [if_pos ((iz_lt hB hA).mpr q), show min a b = b by omega]
    · rw [if_neg (fun z => q ((iz_lt hB hA).mp z)), show min a b = a by omega]
  rw [e]
  exact h H locs ls hP hD hS hv
theorem z_mmax (X : ZX Γ cc own fr lo) {index : Nat} (h1 : Cond.methodLink own index Lib.Math.max.name ∈ lw_all) (h2 : Cond.static Lib.Math.max.name ∈ lw_all) (h3 : Cond.initialized "java/lang/Math" ∈ lw_all) (h4 : Cond.code Lib.Math.max.name Lib.Math.max.code 2 (some .int) ∈ lw_all) (hf : Nat.ble 1 fr = true) (hl : (st.map fun v => v.category).sum + 13 ≤ lo) (hcs : k ≤ (zg_R Γ).cells ∧ n ≤ (zg_R Γ).slots) (hA : InR a) (hB : InR b) (d : decode cc pc = .ok (.invokestatic index, 3)) (h : Z Γ k n σ xs (pc + 3) lv (.int (iz (max a b)) :: st)) : Z Γ k n σ xs pc lv (.int (iz b) :: .int (iz a) :: st) := fun H locs ls hP hD hS hv => by
  refine va_mmax X.hx X.hb (X.hml.trans hv.1.symm) X.hown (X.hts _ h1) (X.hts _ h2) (X.hts _ h3) (X.hts _ h4) (by rw [X.hfr]; exact Nat.le_of_ble_eq_true hf) (by rw [X.hlo]; exact hl) hcs.1 hcs.2 d ?_
  have e : (if iz a < iz b then iz b else iz a) = iz (max a b) := by
    by_cases q : a < b
    · rw [if_pos ((iz_lt hA hB).mpr q), show max a b = b by omega]
    · rw [if_neg (fun z => q ((iz_lt hA hB).mp z)), show max a b = a by omega]
  rw [e]
  exact h H locs ls hP hD hS hv
end ZM2
/-- a good list of words for an inherited, abstract or overridden method's call -/
theorem lw_U {own : String} {idx : Nat} {C owner : String} {x y : MethodName} {b : ByteArray} {L : Nat} {r : Option FieldType} (h1 : Cond.methodLink own idx x ∈ lw_all) (h2 : Cond.sameMethod x.cls owner x.name x.desc ∈ lw_all) (h3 : Cond.selects C x y ∈ lw_all) (h4 : Cond.instanceMethod y ∈ lw_all) (h5 : Cond.initialized y.cls ∈ lw_all) (h6 : Cond.code y b L r ∈ lw_all) : GoodIn lw_all (va_wsU own idx C owner x y (ws_ y b L r)) := by
  have hg := lw_meth h6
  intro w hw
  unfold va_wsU at hw
  rcases List.mem_append.mp hw with h | h
  · have hg2 : ∀ z ∈ lw_all, z ∈ lw_all ∧ ((z.onTables && z.keeps) = true ∨ ∃ ty, z = .arrayClass ty) := by
      intro z hz
      exact hg z (List.mem_cons_of_mem _ hz)
    simp only [List.mem_cons, List.not_mem_nil, or_false] at h
    rcases h with e | e | e | e | e <;> subst e
    · exact hg2 _ h1
    · exact hg2 _ h2
    · exact hg2 _ h3
    · exact hg2 _ h4
    · exact hg2 _ h5
  · exact hg w h
