/-! ZD: raw cells beside the world: rows over them, contracts over both -/
theorem vaD_nd {A : Nat → Prop} {ws : va_W} (h : va_D A ws) : (ws.map fun q => q.1).Nodup := by
  unfold List.Nodup
  rw [List.pairwise_iff_getElem]
  intro i j hi hj hij e
  rw [List.length_map] at hi hj
  simp only [List.getElem_map] at e
  have := h.1 i j _ _ (List.getElem?_eq_getElem hi) (List.getElem?_eq_getElem hj) e
  omega
theorem vaD_mem {A : Nat → Prop} {ws : va_W} (h : va_D A ws) {q : Nat × va_E} (hq : q ∈ ws) : A q.1 := by
  obtain ⟨i, hi⟩ := List.getElem?_of_mem hq
  exact h.2 i q hi
theorem vaD_of {A : Nat → Prop} {ws : va_W} (h1 : (ws.map fun q => q.1).Nodup) (h2 : ∀ q ∈ ws, A q.1) : va_D A ws := by
  refine ⟨fun i j p q hi hj e => ?_, fun i q hi => h2 q (List.mem_of_getElem? hi)⟩
  obtain ⟨h3, h4⟩ := List.getElem?_eq_some_iff.mp hi
  obtain ⟨h5, h6⟩ := List.getElem?_eq_some_iff.mp hj
  have h7 := List.pairwise_iff_getElem.mp h1
  rcases Nat.lt_trichotomy i j with c | c | c
  · have h8 := h7 i j (by rw [List.length_map]; exact h3) (by rw [List.length_map]; exact h5) c
    rw [List.getElem_map, List.getElem_map, h4, h6] at h8
    exact absurd e h8
  · exact c
  · have h8 := h7 j i (by rw [List.length_map]; exact h5) (by rw [List.length_map]; exact h3) c
    rw [List.getElem_map, List.getElem_map, h4, h6] at h8
    exact absurd e.symm h8
theorem vaD_sub {A : Nat → Prop} {a b r : va_W} (hp : a.Perm (b ++ r)) (h : va_D A a) : va_D A b := by
  refine vaD_of ?_ (fun q hq => vaD_mem h (hp.mem_iff.mpr (List.mem_append_left _ hq)))
  have h1 := (hp.map (fun q => q.1)).nodup_iff.mp (vaD_nd h)
  rw [List.map_append] at h1
  exact (List.nodup_append.mp h1).1
theorem vaP_sub {D : va_G} {cl : List vw_C} {H : Heap} {a b : va_W} (hp : ∀ q ∈ b, q ∈ a) (h : va_P D cl a H) : va_P D cl b H := fun i q hi => by
  obtain ⟨j, hj⟩ := List.getElem?_of_mem (hp q (List.mem_of_getElem? hi))
  exact h j q hj
theorem vaP_mem {D : va_G} {cl : List vw_C} {H : Heap} {a : va_W} (h : va_P D cl a H) {q : Nat × va_E} (hq : q ∈ a) : va_at D cl q H := by
  obtain ⟨j, hj⟩ := List.getElem?_of_mem hq
  exact h j q hj
theorem vaA_iff {ws : va_W} {sz q : Nat} : va_A ws sz q ↔ (∃ e, (q, e) ∈ ws) ∨ sz ≤ q := by
  constructor
  · rintro (⟨k, e, h⟩ | h)
    · exact Or.inl ⟨e, List.mem_of_getElem? h⟩
    · exact Or.inr h
  · rintro (⟨e, h⟩ | h)
    · obtain ⟨k, hk⟩ := List.getElem?_of_mem h
      exact Or.inl ⟨k, e, hk⟩
    · exact Or.inr h
/-- behind a call over a part ws0 of the world: its new part ws1, and the rest -/
theorem zd_back {D : va_G} {cl : List vw_C} {A : Nat → Prop} {H H1 : Heap} {ws ws0 r ws1 : va_W} (hp : ws.Perm (ws0 ++ r)) (hP : va_P D cl ws H) (hD : va_D A ws) (hk : ∀ q : Nat, q < H.size → ¬ va_A ws0 H.size q → H1[q]? = H[q]?) (hA : ∀ q, va_A ws0 H.size q → A q) (hP1 : va_P D cl ws1 H1) (hD1 : va_D (va_A ws0 H.size) ws1) : va_P D cl (ws1 ++ r) H1 ∧ va_D A (ws1 ++ r) := by
  have hnd := (hp.map (fun q => q.1)).nodup_iff.mp (vaD_nd hD)
  rw [List.map_append] at hnd
  obtain ⟨n1, n2, n3⟩ := List.nodup_append.mp hnd
  have apart : ∀ q ∈ r, q.1 < H.size ∧ ¬ va_A ws0 H.size q.1 := by
    intro q hq
    have hl := (vaP_mem hP (hp.mem_iff.mpr (List.mem_append_right _ hq))).lt
    refine ⟨hl, fun h => ?_⟩
    rcases vaA_iff.mp h with ⟨e, h⟩ | h
    · exact n3 q.1 (List.mem_map.mpr ⟨_, h, rfl⟩) q.1 (List.mem_map.mpr ⟨_, hq, rfl⟩) rfl
    · omega
  refine ⟨fun i q hi => ?_, vaD_of ?_ (fun q hq => ?_)⟩
  · rcases List.mem_append.mp (List.mem_of_getElem? hi) with h | h
    · exact vaP_mem hP1 h
    · obtain ⟨g1, g2⟩ := apart q h
      exact (vaP_mem hP (hp.mem_iff.mpr (List.mem_append_right _ h))).kept (hk q.1 g1 g2)
  · rw [List.map_append]
    refine List.nodup_append.mpr ⟨vaD_nd hD1, n2, ?_⟩
    intro a ha b hb e
    obtain ⟨x, hx, rfl⟩ := List.mem_map.mp ha
    obtain ⟨y, hy, rfl⟩ := List.mem_map.mp hb
    have h1 : x.1 = y.1 := e
    exact (apart y hy).2 (h1 ▸ vaD_mem hD1 hx)
  · rcases List.mem_append.mp hq with h | h
    · exact hA _ (vaD_mem hD1 h)
    · exact vaD_mem hD (hp.mem_iff.mpr (List.mem_append_right _ h))
theorem zx_at {Θ : ZTh} {σ : ZS} {xs : va_W} {i : Nat} {q : Nat × va_E} (h : xs[i]? = some q) : (zt_W Θ σ xs)[zt_N Θ + i]? = some q := by
  rw [zt_ge (Nat.le_add_right _ _), Nat.add_sub_cancel_left]
  exact h
theorem zx_set {Θ : ZTh} {σ : ZS} {xs : va_W} {i : Nat} {q : Nat × va_E} : (zt_W Θ σ xs).set (zt_N Θ + i) q = zt_W Θ σ (xs.set i q) := by
  unfold zt_W
  rw [List.set_append_right _ _ (by rw [zw_len]; exact Nat.le_add_right _ _), zw_len, Nat.add_sub_cancel_left]
theorem zx_app {Θ : ZTh} {σ : ZS} {xs ys : va_W} : zt_W Θ σ xs ++ ys = zt_W Θ σ (xs ++ ys) := by
  unfold zt_W
  rw [List.append_assoc]
section ZX
variable {Γ : ZG} {cc : ByteArray} {own : String} {fr lo : Nat} {k n : Nat} {σ : ZS} {xs : va_W} {pc : Nat} {lv : List (Nat × Value)} {st : List Value} {l : Launch} {Θ : ZTh} {nL mc0 ms0 : Nat} {a : Nat}
theorem z_perm {ys : va_W} (r : va_W) (hp : xs.Perm (ys ++ r)) (h : Z Γ k n σ ys pc lv st) : Z Γ k n σ xs pc lv st := fun H locs ls hP hD hS hv => by
  have hp2 : (zt_W (zg_T Γ) σ xs).Perm (zt_W (zg_T Γ) σ ys ++ r) := by
    rw [zx_app]
    exact List.Perm.append_left _ hp
  exact h H locs ls (vaP_sub (fun q hq => hp2.mem_iff.mpr (List.mem_append_left _ hq)) hP) (vaD_sub hp2 hD) hS hv
theorem zx_nd (h : (xs.map fun q => q.1).Nodup → Z Γ k n σ xs pc lv st) : Z Γ k n σ xs pc lv st := fun H locs ls hP hD hS hv => h (by
    have h1 := vaD_nd hD
    unfold zt_W at h1
    rw [List.map_append] at h1
    exact (List.nodup_append.mp h1).2.1) H locs ls hP hD hS hv
theorem zx_get (X : ZX Γ cc own fr lo) (K : ZCap Γ l Θ nL mc0 ms0) {ref C : String} {T : u_T} {N0 ci index : Nat} {fs : List Value} (hin : ∀ w ∈ u_ws C T N0, w ∈ lw_all) (i : Nat) (hx : xs[i]? = some (a, .inr (ci, fs))) (hc : (zt_cl Θ)[ci]? = some (C, T, N0)) (j : Nat) (hj : j < N0) (hlink : Cond.fieldLink own index ref (T j).2.1 (T j).2.2.1 ∈ lw_all) (hsame : ∀ x, (zg_s Γ).fieldFound? (T j).1 (T j).2.1 (T j).2.2.1 = some x → (zg_s Γ).fieldFound? ref (T j).2.1 (T j).2.2.1 = some x) {v : Value} (hv0 : fs[j]? = some v) (d : decode cc pc = .ok (.getfield index, 3)) (h : Z Γ k n σ xs (pc + 3) lv (v :: st)) : Z Γ k n σ xs pc lv (.ref a :: st) := by
  obtain ⟨rfl, rfl, -⟩ := K
  intro H locs ls hP hD hS hv
  exact va_get X.hx X.hb X.hts hin X.hown X.hK hP _ (zx_at hx) hc j hj (X.hts _ hlink) hsame hv0 d (h H locs ls hP hD hS hv)
theorem zx_getN (X : ZX Γ cc own fr lo) (K : ZCap Γ l Θ nL mc0 ms0) {ref C host : String} {T : u_T} {N0 ci index : Nat} {fs : List Value} (hin : ∀ w ∈ u_ws C T N0, w ∈ lw_all) (i : Nat) (hx : xs[i]? = some (a, .inr (ci, fs))) (hc : (zt_cl Θ)[ci]? = some (C, T, N0)) (j : Nat) (hj : j < N0) (hlink : Cond.fieldLinkNest own index ref (T j).2.1 (T j).2.2.1 host ∈ lw_tbl) (hsame : ∀ x, (zg_s Γ).fieldFound? (T j).1 (T j).2.1 (T j).2.2.1 = some x → (zg_s Γ).fieldFound? ref (T j).2.1 (T j).2.2.1 = some x) {v : Value} (hv0 : fs[j]? = some v) (d : decode cc pc = .ok (.getfield index, 3)) (h : Z Γ k n σ xs (pc + 3) lv (v :: st)) : Z Γ k n σ xs pc lv (.ref a :: st) := by
  obtain ⟨rfl, rfl, -⟩ := K
  intro H locs ls hP hD hS hv
  exact va_getN X.hx X.hb X.hts hin X.hown X.hK hP _ (zx_at hx) hc j hj (va_Nw.use rfl (X.nw hlink rfl)) hsame hv0 d (h H locs ls hP hD hS hv)
theorem zx_put (X : ZX Γ cc own fr lo) (K : ZCap Γ l Θ nL mc0 ms0) {ref C : String} {T : u_T} {N0 ci index : Nat} {fs : List Value} (hin : ∀ w ∈ u_ws C T N0, w ∈ lw_all) (ty0 : Nat → FieldType) (hty : ∀ k, k < N0 → parseFieldDescriptor (T k).2.2.1 = some (ty0 k)) (hnm : ∀ a, a < N0 → ∀ b, b < N0 → a ≠ b → (T a).2.1 ≠ (T b).2.1) (i : Nat) (hx : xs[i]? = some (a, .inr (ci, fs))) (hc : (zt_cl Θ)[ci]? = some (C, T, N0)) (j : Nat) (hj : j < N0) (hlink : Cond.fieldLink own index ref (T j).2.1 (T j).2.2.1 ∈ lw_all) (hsame : ∀ x, (zg_s Γ).fieldFound? (T j).1 (T j).2.1 (T j).2.2.1 = some x → (zg_s Γ).fieldFound? ref (T j).2.1 (T j).2.2.1 = some x) (hfin : (T j).2.2.2 = false) {ty : FieldType} {v : Value} (hd : parseFieldDescriptor (T j).2.2.1 = some ty) (hnr : narrow ty v = v) (hfit : fits ty v = true) (hl : j < fs.length) (d : decode cc pc = .ok (.putfield index, 3)) (h : Z Γ k n σ (xs.set i (a, .inr (ci, fs.set j v))) (pc + 3) lv st) : Z Γ k n σ xs pc lv (v :: .ref a :: st) := by
  obtain ⟨rfl, rfl, -⟩ := K
  intro H locs ls hP hD hS hv
  refine va_put X.hx X.hb X.hts hin ty0 hty hnm X.hown X.hK hP hD hS _ (zx_at hx) hc j hj (X.hts _ hlink) hsame hfin hd hnr hfit hl d (fun H1 locs1 hP1 hD1 hS1 => ?_)
  rw [zx_set] at hP1 hD1
  exact h H1 locs1 ls hP1 hD1 hS1 hv
theorem zx_putN (X : ZX Γ cc own fr lo) (K : ZCap Γ l Θ nL mc0 ms0) {ref C host : String} {T : u_T} {N0 ci index : Nat} {fs : List Value} (hin : ∀ w ∈ u_ws C T N0, w ∈ lw_all) (ty0 : Nat → FieldType) (hty : ∀ k, k < N0 → parseFieldDescriptor (T k).2.2.1 = some (ty0 k)) (hnm : ∀ a, a < N0 → ∀ b, b < N0 → a ≠ b → (T a).2.1 ≠ (T b).2.1) (i : Nat) (hx : xs[i]? = some (a, .inr (ci, fs))) (hc : (zt_cl Θ)[ci]? = some (C, T, N0)) (j : Nat) (hj : j < N0) (hlink : Cond.fieldLinkNest own index ref (T j).2.1 (T j).2.2.1 host ∈ lw_tbl) (hsame : ∀ x, (zg_s Γ).fieldFound? (T j).1 (T j).2.1 (T j).2.2.1 = some x → (zg_s Γ).fieldFound? ref (T j).2.1 (T j).2.2.1 = some x) (hfin : (T j).2.2.2 = false) {ty : FieldType} {v : Value} (hd : parseFieldDescriptor (T j).2.2.1 = some ty) (hnr : narrow ty v = v) (hfit : fits ty v = true) (hl : j < fs.length) (d : decode cc pc = .ok (.putfield index, 3)) (h : Z Γ k n σ (xs.set i (a, .inr (ci, fs.set j v))) (pc + 3) lv st) : Z Γ k n σ xs pc lv (v :: .ref a :: st) := by
  obtain ⟨rfl, rfl, -⟩ := K
  intro H locs ls hP hD hS hv
  refine va_putN X.hx X.hb X.hts hin ty0 hty hnm X.hown X.hK hP hD hS _ (zx_at hx) hc j hj (va_Nw.use rfl (X.nw hlink rfl)) hsame hfin hd hnr hfit hl d (fun H1 locs1 hP1 hD1 hS1 => ?_)
  rw [zx_set] at hP1 hD1
  exact h H1 locs1 ls hP1 hD1 hS1 hv
theorem zx_putF (X : ZX Γ cc own fr lo) (K : ZCap Γ l Θ nL mc0 ms0) {ref C : String} {T : u_T} {N0 ci index : Nat} {fs : List Value} (hin : ∀ w ∈ u_ws C T N0, w ∈ lw_all) (ty0 : Nat → FieldType) (hty : ∀ k, k < N0 → parseFieldDescriptor (T k).2.2.1 = some (ty0 k)) (hnm : ∀ a, a < N0 → ∀ b, b < N0 → a ≠ b → (T a).2.1 ≠ (T b).2.1) (i : Nat) (hx : xs[i]? = some (a, .inr (ci, fs))) (hc : (zt_cl Θ)[ci]? = some (C, T, N0)) (j : Nat) (hj : j < N0) (hlink : Cond.fieldLink own index ref (T j).2.1 (T j).2.2.1 ∈ lw_all) (hsame : ∀ x, (zg_s Γ).fieldFound? (T j).1 (T j).2.1 (T j).2.2.1 = some x → (zg_s Γ).fieldFound? ref (T j).2.1 (T j).2.2.1 = some x) (hfin : (T j).2.2.2 = true) (hinit : (zg_me Γ).name = "<init>") (hdecl : (T j).1 = own) {ty : FieldType} {v : Value} (hd : parseFieldDescriptor (T j).2.2.1 = some ty) (hnr : narrow ty v = v) (hfit : fits ty v = true) (hl : j < fs.length) (d : decode cc pc = .ok (.putfield index, 3)) (h : Z Γ k n σ (xs.set i (a, .inr (ci, fs.set j v))) (pc + 3) lv st) : Z Γ k n σ xs pc lv (v :: .ref a :: st) := by
  obtain ⟨rfl, rfl, -⟩ := K
  intro H locs ls hP hD hS hv
  refine va_putF X.hx X.hb X.hts hin ty0 hty hnm X.hown X.hK hP hD hS _ (zx_at hx) hc j hj (X.hts _ hlink) hsame hfin hinit hdecl hd hnr hfit hl d (fun H1 locs1 hP1 hD1 hS1 => ?_)
  rw [zx_set] at hP1 hD1
  exact h H1 locs1 ls hP1 hD1 hS1 hv
theorem zx_alen (X : ZX Γ cc own fr lo) (K : ZCap Γ l Θ nL mc0 ms0) {cA : ClassId} {x : vp_A} {ty : FieldType} (i t0 : Nat) (hx : xs[i]? = some (a, .inl (cA, x))) (ht : (zt_ty Θ)[t0]? = some (cA, ty)) (d : decode cc pc = .ok (.arraylength, 1)) (h : Z Γ k n σ xs (pc + 1) lv (.int (iz (x.1 : Int)) :: st)) : Z Γ k n σ xs pc lv (.ref a :: st) := by
  obtain ⟨rfl, rfl, -⟩ := K
  intro H locs ls hP hD hS hv
  exact va_alen X.hx X.hb X.hK hP _ t0 (zx_at hx) ht rfl d (h H locs ls hP hD hS hv)
theorem zx_aldq (X : ZX Γ cc own fr lo) (K : ZCap Γ l Θ nL mc0 ms0) {cA : ClassId} {N0 : Nat} {C : String} {f : Nat → Option Nat} (i t0 : Nat) (hx : xs[i]? = some (a, .inl (cA, N0, .inr (.inr (.inr (.inr f)))))) (ht : (zt_ty Θ)[t0]? = some (cA, .object C)) (hn : N0 < 2147483648) {j : Int} (hj : 0 ≤ j ∧ j < (N0 : Int)) (d : decode cc pc = .ok (.aaload, 1)) (h : Z Γ k n σ xs (pc + 1) lv (va_rf (f j.toNat) :: st)) : Z Γ k n σ xs pc lv (.int (iz j) :: .ref a :: st) := by
  obtain ⟨rfl, rfl, -⟩ := K
  intro H locs ls hP hD hS hv
  refine va_aldq X.hx X.hb X.hK hP _ t0 (zx_at hx) ht (iz_vp_in hj.1 hj.2 hn) d ?_
  rw [iz_clamp hj.1 hj.2 hn]
  exact h H locs ls hP hD hS hv
theorem zx_astqO (X : ZX Γ cc own fr lo) (K : ZCap Γ l Θ nL mc0 ms0) {cA : ClassId} {N0 v ci : Nat} {E : String} {r : vw_C} {vs : List Value} {f : Nat → Option Nat} (i i2 t0 : Nat) (hx : xs[i]? = some (a, .inl (cA, N0, .inr (.inr (.inr (.inr f)))))) (ht : (zt_ty Θ)[t0]? = some (cA, .object E)) (hca : Cond.castable r.1 E ∈ lw_tbl) (hv0 : xs[i2]? = some (v, .inr (ci, vs))) (hc : (zt_cl Θ)[ci]? = some r) (hn : N0 < 2147483648) {j : Int} (hj : 0 ≤ j ∧ j < (N0 : Int)) (d : decode cc pc = .ok (.aastore, 1)) (h : Z Γ k n σ (xs.set i (a, .inl (cA, N0, .inr (.inr (.inr (.inr (va_up f j.toNat (some v)))))))) (pc + 1) lv st) : Z Γ k n σ xs pc lv (.ref v :: .int (iz j) :: .ref a :: st) := by
  obtain ⟨rfl, rfl, -⟩ := K
  intro H locs ls hP hD hS hv
  refine va_astqO X.hx X.hb X.hK hP hD hS _ t0 _ ci (zx_at hx) ht (X.nw hca rfl) (zx_at hv0) hc (iz_vp_in hj.1 hj.2 hn) d (fun H1 locs1 hP1 hD1 hS1 => ?_)
  rw [zx_set, iz_clamp hj.1 hj.2 hn] at hP1 hD1
  exact h H1 locs1 ls hP1 hD1 hS1 hv
theorem zx_astqN (X : ZX Γ cc own fr lo) (K : ZCap Γ l Θ nL mc0 ms0) {cA : ClassId} {N0 : Nat} {E : String} {f : Nat → Option Nat} (i t0 : Nat) (hx : xs[i]? = some (a, .inl (cA, N0, .inr (.inr (.inr (.inr f)))))) (ht : (zt_ty Θ)[t0]? = some (cA, .object E)) (hn : N0 < 2147483648) {j : Int} (hj : 0 ≤ j ∧ j < (N0 : Int)) (d : decode cc pc = .ok (.aastore, 1)) (h : Z Γ k n σ (xs.set i (a, .inl (cA, N0, .inr (.inr (.inr (.inr (va_up f j.toNat none))))))) (pc + 1) lv st) : Z Γ k n σ xs pc lv (.null :: .int (iz j) :: .ref a :: st) := by
  obtain ⟨rfl, rfl, -⟩ := K
  intro H locs ls hP hD hS hv
  refine va_astqN X.hx X.hb X.hK hP hD hS _ t0 (zx_at hx) ht (iz_vp_in hj.1 hj.2 hn) d (fun H1 locs1 hP1 hD1 hS1 => ?_)
  rw [zx_set, iz_clamp hj.1 hj.2 hn] at hP1 hD1
  exact h H1 locs1 ls hP1 hD1 hS1 hv
theorem zx_new (X : ZX Γ cc own fr lo) (K : ZCap Γ l Θ nL mc0 ms0) {C : String} {T : u_T} {N0 ci index : Nat} {fs : List Value} (hin : ∀ w ∈ u_ws C T N0, w ∈ lw_all) (ty0 : Nat → FieldType) (hty : ∀ k, k < N0 → parseFieldDescriptor (T k).2.2.1 = some (ty0 k)) (h1 : Cond.classLink own index C ∈ lw_all) (h2 : Cond.instantiable C N0 ∈ lw_all) (h3 : Cond.initialized C ∈ lw_all) (hc : (zt_cl Θ)[ci]? = some (C, T, N0)) (hfs : ∀ j, j < N0 → defaultValue (ty0 j) = vp_V fs j) (hcs : k + 1 ≤ mc0 ∧ n + N0 ≤ ms0) (d : decode cc pc = .ok (.new index, 3)) (h : ∀ a : Nat, Z Γ (k + 1) (n + N0) σ (xs ++ [(a, .inr (ci, fs))]) (pc + 3) lv (.ref a :: st)) : Z Γ k n σ xs pc lv st := by
  obtain ⟨rfl, rfl, -, hc1, hc2⟩ := K
  intro H locs ls hP hD hS hv
  refine va_new X.hx X.hb X.hts hin ty0 hty X.hown (X.hts _ h1) (X.hts _ h2) (X.hts _ h3) X.hK hP hD hS X.hA hc hfs (by rw [hc1]; exact hcs.1) (by rw [hc2]; exact hcs.2) d (fun q H1 hP1 hD1 hS1 => ?_)
  rw [zx_app] at hP1 hD1
  exact h q H1 locs ls hP1 hD1 hS1 hv
theorem zx_newq (X : ZX Γ cc own fr lo) (K : ZCap Γ l Θ nL mc0 ms0) {C : String} {index t0 : Nat} {cA : ClassId} (h1 : Cond.classLink own index C ∈ lw_all) (hover : va_AO C (zg_s Γ)) (ht : (zt_ty Θ)[t0]? = some (cA, .object C)) {N' : Nat} {m : Int} (hm : m = (N' : Int)) (hN : N' ≤ 134217728) (hcs : k + 1 ≤ mc0 ∧ n + N' ≤ ms0) (d : decode cc pc = .ok (.anewarray index, 3)) (h : ∀ a : Nat, Z Γ (k + 1) (n + N') σ (xs ++ [(a, .inl (cA, N', .inr (.inr (.inr (.inr (fun _ => none))))))]) (pc + 3) lv (.ref a :: st)) : Z Γ k n σ xs pc lv (.int (iz m) :: st) := by
  obtain ⟨rfl, rfl, -, hc1, hc2⟩ := K
  intro H locs ls hP hD hS hv
  have hi : InR m := ⟨by omega, by omega⟩
  refine va_newq X.hx X.hb X.hown (X.hts _ h1) hover X.hK hP hD hS X.hA (N' := N') (fun q => absurd ((iz_lt0 hi).mp q) (by omega)) (by show (iz m).toInt.toNat = N'; rw [iz_toInt hi]; omega) (by omega) (by rw [hc1]; exact hcs.1) (by rw [hc2]; exact hcs.2) d (fun q cB H1 hK1 hP1 hD1 hS1 => ?_)
  have e : cB = cA := by
    obtain ⟨_, _, _, _, _, h6⟩ := (hK1.2 (zt_ty (zg_T Γ)).length (cB, .object C) (by simp)).2
    obtain ⟨_, _, _, _, _, h7⟩ := (X.hK.2 t0 _ ht).2
    exact Option.some.inj (h6.symm.trans h7)
  subst e
  rw [zx_app] at hP1 hD1
  exact h q H1 locs ls hP1 hD1 hS1 hv
end ZX
/-- the default array of no elements (a static, beside the worlds), and the class object of arrays of objects -/
def zDe (D : va_G) (cl : List vw_C) (cA : ClassId) (δ : Nat × Nat) (A : Nat → Prop) (U : State) (H : Heap) : Prop := va_Z RJ2 "DEFAULTCAPACITY_EMPTY_ELEMENTDATA" "[Ljava/lang/Object;" (.ref δ.1) A U H ∧ va_P D cl [(δ.1, .inl (cA, 0, .inr (.inr (.inr (.inr fun _ => none)))))] H ∧ ¬ A δ.1 ∧ va_Mi "[Ljava/lang/Object;" δ.2 U
theorem zDe.go {D : va_G} {cl : List vw_C} {cA : ClassId} {δ : Nat × Nat} {A B : Nat → Prop} {s U : State} {H0 H : Heap} {locs : List Loc} (h : zDe D cl cA δ A s H0) (hS : va_S A H0 H locs) (hvm : s.vm.Alike U.vm) (hAB : ∀ q, B q → A q) : zDe D cl cA δ B U H := by
  obtain ⟨h1, h2, h3, h4⟩ := h
  refine ⟨((h1.kept hS.2.1).moved hvm).narrow hAB, fun i q hi => ?_, fun z => h3 (hAB _ z), h4.moved hvm⟩
  have h5 := h2 i q hi
  have hq : q.1 = δ.1 := by
    match i, hi with
    | 0, hi => cases hi; rfl
    | i + 1, hi => cases hi
  exact h5.kept (hS.2.1 q.1 h5.lt (by rw [hq]; exact h3))
/-- the same classes and types, and no cells -/
def zR (Θ : ZTh) : ZTh := (zt_D Θ, zt_cl Θ, zt_ty Θ, fun _ => 0, fun _ => .inl (0, []), 0)
theorem zR_W {Θ : ZTh} {σ : ZS} {ws : va_W} : zt_W (zR Θ) σ ws = ws := rfl
def ZDe (Γ : ZG) (cA : ClassId) (δ : Nat × Nat) : Prop := zDe (zt_D (zg_T Γ)) (zt_cl (zg_T Γ)) cA δ (zg_A Γ) (zg_s Γ) (zg_s Γ).heap
def zdPre (Θ : ZTh) (cA : ClassId) (δ : Nat × Nat) (sz : Nat) (σ : ZS) (xs : va_W) (av : List Value) : Array Value → State → Prop := va_Pc av (fun U => U.heap.size = sz ∧ va_P (zt_D Θ) (zt_cl Θ) (zt_W Θ σ xs) U.heap ∧ va_K (zt_D Θ) (zt_cl Θ) (zt_ty Θ) U ∧ va_D (fun _ => True) (zt_W Θ σ xs) ∧ zNw U ∧ zSt (va_A (zt_W Θ σ xs) sz) U U.heap ∧ zDe (zt_D Θ) (zt_cl Θ) cA δ (va_A (zt_W Θ σ xs) sz) U U.heap)
theorem zdPre_blind {Θ : ZTh} {cA : ClassId} {δ : Nat × Nat} {sz : Nat} {σ : ZS} {xs : va_W} {av : List Value} : FrameBlind (zdPre Θ cA δ sz σ xs av) := fun a U g mk q => by
  obtain ⟨q0, q1, qP, qK, qD, qN, qS, qE⟩ := q
  exact ⟨q0, q1, qP, va_K.moved (u := U) (U := U.calling g mk a) (Vm.Alike.refl U.vm) qK, qD, zNw.same (u := U) (U := U.calling g mk a) rfl qN, ⟨qS.1.moved (u := U) (U := U.calling g mk a) (Vm.Alike.refl U.vm), qS.2.moved (u := U) (U := U.calling g mk a) (Vm.Alike.refl U.vm)⟩, qE.1.moved (u := U) (U := U.calling g mk a) (Vm.Alike.refl U.vm), qE.2.1, qE.2.2.1, qE.2.2.2.moved (u := U) (U := U.calling g mk a) (Vm.Alike.refl U.vm)⟩
/-- the world at the end -/
def zdB (Θ : ZTh) (W0 : va_W) (sz : Nat) (q : ZS × va_W) (t : State) : Prop := va_P (zt_D Θ) (zt_cl Θ) (zt_W Θ q.1 q.2) t.heap ∧ va_D (va_A W0 sz) (zt_W Θ q.1 q.2)
def ZDI (l : Launch) (Θ : ZTh) (cA : ClassId) (δ : Nat × Nat) (y : MethodName) (code : ByteArray) (nL : Nat) (ret : FieldType) (fr lo mc ms : Nat) (av : List Value) (σ : ZS) (xs : va_W) (post : Int → ZS → va_W → Prop) : Prop :=
  ∀ sz : Nat, Met l y (ws_ y code nL (some ret)) { frames := fr, cells := mc, slots := ms, locals := lo } (zdPre Θ cA δ sz σ xs av) (va_Qi (fun (r : Int32) (q : ZS × va_W) => ∃ x : Int, r = iz x ∧ post x q.1 q.2) (zdB Θ (zt_W Θ σ xs) sz) (va_A (zt_W Θ σ xs) sz)) mc ms (va_A (zt_W Θ σ xs) sz)
def ZDV (l : Launch) (Θ : ZTh) (cA : ClassId) (δ : Nat × Nat) (y : MethodName) (code : ByteArray) (nL : Nat) (fr lo mc ms : Nat) (av : List Value) (σ : ZS) (xs : va_W) (post : ZS → va_W → Prop) : Prop :=
  ∀ sz : Nat, Met l y (ws_ y code nL none) { frames := fr, cells := mc, slots := ms, locals := lo } (zdPre Θ cA δ sz σ xs av) (va_Qv (fun (q : ZS × va_W) => post q.1 q.2) (zdB Θ (zt_W Θ σ xs) sz) (va_A (zt_W Θ σ xs) sz)) mc ms (va_A (zt_W Θ σ xs) sz)
def ZDR (l : Launch) (Θ : ZTh) (cA : ClassId) (δ : Nat × Nat) (y : MethodName) (code : ByteArray) (nL : Nat) (ret : FieldType) (fr lo mc ms : Nat) (av : List Value) (σ : ZS) (xs : va_W) (post : Nat → ZS → va_W → Prop) : Prop :=
  ∀ sz : Nat, Met l y (ws_ y code nL (some ret)) { frames := fr, cells := mc, slots := ms, locals := lo } (zdPre Θ cA δ sz σ xs av) (va_Qr (fun (_ : ZS × va_W) => True) (fun (q : ZS × va_W) (a : Nat) (t : State) => post a q.1 q.2 ∧ zdB Θ (zt_W Θ σ xs) sz q t) (va_A (zt_W Θ σ xs) sz)) mc ms (va_A (zt_W Θ σ xs) sz)
def ZDretI (Γ : ZG) (cc : ByteArray) (ret : FieldType) (mc ms : Nat) (post : Int → ZS → va_W → Prop) : Prop := ∀ (k n pc : Nat) (σ : ZS) (xs : va_W) (lv : List (Nat × Value)) (x : Int), decode cc pc = .ok (.ireturn, 1) → narrow ret (.int (iz x)) = .int (iz x) → k ≤ mc → n ≤ ms → post x σ xs → Z Γ k n σ xs pc lv [.int (iz x)]
def ZDretV (Γ : ZG) (cc : ByteArray) (mc ms : Nat) (post : ZS → va_W → Prop) : Prop := ∀ (k n pc : Nat) (σ : ZS) (xs : va_W) (lv : List (Nat × Value)), decode cc pc = .ok (.return_, 1) → k ≤ mc → n ≤ ms → post σ xs → Z Γ k n σ xs pc lv []
def ZDretR (Γ : ZG) (cc : ByteArray) (mc ms : Nat) (post : Nat → ZS → va_W → Prop) : Prop := ∀ (k n pc : Nat) (σ : ZS) (xs : va_W) (lv : List (Nat × Value)) (a : Nat), decode cc pc = .ok (.areturn, 1) → k ≤ mc → n ≤ ms → post a σ xs → Z Γ k n σ xs pc lv [.ref a]
theorem ZDI.of {l : Launch} {Θ : ZTh} {cA : ClassId} {δ : Nat × Nat} {y : MethodName} {code : ByteArray} {nL : Nat} {ret : FieldType} {fr lo mc ms : Nat} {av : List Value} {σ : ZS} {xs : va_W} {post : Int → ZS → va_W → Prop} (hy : plainName y.cls = true) (hlen : (lg_sl av).length ≤ nL)
    (walk : ∀ (Γ : ZG), ZX Γ code y.cls fr lo → ZCap Γ l Θ nL mc ms → ZDe Γ cA δ → ZDretI Γ code ret mc ms post → Z Γ 0 0 σ xs 0 (lv_args 0 av) []) : ZDI l Θ cA δ y code nL ret fr lo mc ms av σ xs post := by
  intro sz
  refine Met.ofW (cc := code) (maxL := nL) (ret := some ret) hy rfl ?_
  intro p e s m args below meth c s₁ B hml hv
  obtain ⟨rfl, hsz, hP, hK, hD0, hNw, hSt, hDe⟩ := hv
  subst hsz
  have hts := atoms_spec (ws := ws_ y code nL (some ret)) B.pre
  have hts : ∀ w ∈ lw_all, w.before _ s = true := fun w h => hts w (List.mem_cons_of_mem _ h)
  have hown : s.vm.findClass y.cls = some m.cls := findClass_of_methodNamed B.named
  have hD : va_D (va_A (zt_W Θ σ xs) s.heap.size) (zt_W Θ σ xs) := hD0.self
  have hl := lv_entry av (n := nL) hlen
  rw [lg_entry_eq]
  generalize (lg_sl av ++ List.replicate (nL - (lg_sl av).length) Slot.unset).toArray = ls at hl ⊢
  have hr := B.returns
  have hlk := B.notSynchronized
  have hbx := B.exec
  have hbb := B.bytes
  let Γ : ZG := zMk p l e { frames := fr, cells := mc, slots := ms, locals := lo } s m av.toArray below meth c (MQ below (va_Qi (fun (r : Int32) (q : ZS × va_W) => ∃ x : Int, r = iz x ∧ post x q.1 q.2) (zdB Θ (zt_W Θ σ xs) s.heap.size) (va_A (zt_W Θ σ xs) s.heap.size)) av.toArray s mc ms (va_A (zt_W Θ σ xs) s.heap.size)) (va_A (zt_W Θ σ xs) s.heap.size) Θ nL
  have X : ZX Γ code y.cls fr lo := ⟨hbx, hbb, hml, hown, hts, hlk, hK, fun q h => Or.inr h, rfl, rfl, hNw, hSt⟩
  refine walk Γ X ⟨rfl, rfl, rfl, rfl, rfl⟩ hDe (fun k n pc σ' xs' lv x d hnr hk hm hp => ?_) s.heap [] ls hP hD va_S.rf hl
  intro H locs ls' hP' hD' hS' hv'
  refine W.widen hk hm ?_
  exact W.zret hbx hbb hr hnr (fun t ht hW => ⟨⟨iz x, (σ', xs'), rfl, ⟨x, rfl, hp⟩, by rw [ht]; exact hP', hD'⟩, hS'.F ht⟩) hS'.2.2 d hlk
theorem ZDV.of {l : Launch} {Θ : ZTh} {cA : ClassId} {δ : Nat × Nat} {y : MethodName} {code : ByteArray} {nL : Nat} {fr lo mc ms : Nat} {av : List Value} {σ : ZS} {xs : va_W} {post : ZS → va_W → Prop} (hy : plainName y.cls = true) (hlen : (lg_sl av).length ≤ nL)
    (walk : ∀ (Γ : ZG), ZX Γ code y.cls fr lo → ZCap Γ l Θ nL mc ms → ZDe Γ cA δ → ZDretV Γ code mc ms post → Z Γ 0 0 σ xs 0 (lv_args 0 av) []) : ZDV l Θ cA δ y code nL fr lo mc ms av σ xs post := by
  intro sz
  refine Met.ofW (cc := code) (maxL := nL) (ret := none) hy rfl ?_
  intro p e s m args below meth c s₁ B hml hv
  obtain ⟨rfl, hsz, hP, hK, hD0, hNw, hSt, hDe⟩ := hv
  subst hsz
  have hts := atoms_spec (ws := ws_ y code nL none) B.pre
  have hts : ∀ w ∈ lw_all, w.before _ s = true := fun w h => hts w (List.mem_cons_of_mem _ h)
  have hown : s.vm.findClass y.cls = some m.cls := findClass_of_methodNamed B.named
  have hD : va_D (va_A (zt_W Θ σ xs) s.heap.size) (zt_W Θ σ xs) := hD0.self
  have hl := lv_entry av (n := nL) hlen
  rw [lg_entry_eq]
  generalize (lg_sl av ++ List.replicate (nL - (lg_sl av).length) Slot.unset).toArray = ls at hl ⊢
  have hr := B.returns
  have hlk := B.notSynchronized
  have hbx := B.exec
  have hbb := B.bytes
  let Γ : ZG := zMk p l e { frames := fr, cells := mc, slots := ms, locals := lo } s m av.toArray below meth c (MQ below (va_Qv (fun (q : ZS × va_W) => post q.1 q.2) (zdB Θ (zt_W Θ σ xs) s.heap.size) (va_A (zt_W Θ σ xs) s.heap.size)) av.toArray s mc ms (va_A (zt_W Θ σ xs) s.heap.size)) (va_A (zt_W Θ σ xs) s.heap.size) Θ nL
  have X : ZX Γ code y.cls fr lo := ⟨hbx, hbb, hml, hown, hts, hlk, hK, fun q h => Or.inr h, rfl, rfl, hNw, hSt⟩
  refine walk Γ X ⟨rfl, rfl, rfl, rfl, rfl⟩ hDe (fun k n pc σ' xs' lv d hk hm hp => ?_) s.heap [] ls hP hD va_S.rf hl
  intro H locs ls' hP' hD' hS' hv'
  refine W.widen hk hm ?_
  exact W.vret hbx hbb hr (fun t ht hW => ⟨⟨(σ', xs'), rfl, hp, by rw [ht]; exact hP', hD'⟩, hS'.F ht⟩) hS'.2.2 d hlk
theorem ZDR.of {l : Launch} {Θ : ZTh} {cA : ClassId} {δ : Nat × Nat} {y : MethodName} {code : ByteArray} {nL : Nat} {ret : FieldType} {fr lo mc ms : Nat} {av : List Value} {σ : ZS} {xs : va_W} {post : Nat → ZS → va_W → Prop} (hy : plainName y.cls = true) (hlen : (lg_sl av).length ≤ nL) (hrt : (∃ C, ret = .object C) ∨ ∃ t, ret = .array t)
    (walk : ∀ (Γ : ZG), ZX Γ code y.cls fr lo → ZCap Γ l Θ nL mc ms → ZDe Γ cA δ → ZDretR Γ code mc ms post → Z Γ 0 0 σ xs 0 (lv_args 0 av) []) : ZDR l Θ cA δ y code nL ret fr lo mc ms av σ xs post := by
  intro sz
  refine Met.ofW (cc := code) (maxL := nL) (ret := some ret) hy rfl ?_
  intro p e s m args below meth c s₁ B hml hv
  obtain ⟨rfl, hsz, hP, hK, hD0, hNw, hSt, hDe⟩ := hv
  subst hsz
  have hts := atoms_spec (ws := ws_ y code nL (some ret)) B.pre
  have hts : ∀ w ∈ lw_all, w.before _ s = true := fun w h => hts w (List.mem_cons_of_mem _ h)
  have hown : s.vm.findClass y.cls = some m.cls := findClass_of_methodNamed B.named
  have hD : va_D (va_A (zt_W Θ σ xs) s.heap.size) (zt_W Θ σ xs) := hD0.self
  have hl := lv_entry av (n := nL) hlen
  rw [lg_entry_eq]
  generalize (lg_sl av ++ List.replicate (nL - (lg_sl av).length) Slot.unset).toArray = ls at hl ⊢
  have hr := B.returns
  have hlk := B.notSynchronized
  have hbx := B.exec
  have hbb := B.bytes
  let Γ : ZG := zMk p l e { frames := fr, cells := mc, slots := ms, locals := lo } s m av.toArray below meth c (MQ below (va_Qr (fun (_ : ZS × va_W) => True) (fun (q : ZS × va_W) (a : Nat) (t : State) => post a q.1 q.2 ∧ zdB Θ (zt_W Θ σ xs) s.heap.size q t) (va_A (zt_W Θ σ xs) s.heap.size)) av.toArray s mc ms (va_A (zt_W Θ σ xs) s.heap.size)) (va_A (zt_W Θ σ xs) s.heap.size) Θ nL
  have X : ZX Γ code y.cls fr lo := ⟨hbx, hbb, hml, hown, hts, hlk, hK, fun q h => Or.inr h, rfl, rfl, hNw, hSt⟩
  refine walk Γ X ⟨rfl, rfl, rfl, rfl, rfl⟩ hDe (fun k n pc σ' xs' lv a d hk hm hp => ?_) s.heap [] ls hP hD va_S.rf hl
  intro H locs ls' hP' hD' hS' hv'
  refine W.widen hk hm ?_
  refine W.aret hbx hbb hr hrt (Or.inr ⟨a, rfl⟩) (fun t ht _ => ⟨⟨(σ', xs'), a, rfl, trivial, hp, by rw [ht]; exact hP', hD'⟩, hS'.F ht⟩) hS'.2.2 d hlk
