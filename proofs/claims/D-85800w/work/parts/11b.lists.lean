/-! the JDK's lists, what reads them alone: contracts over [list, its array] at any addresses; then the list of encodations in the component's world -/
def roMet (l : Launch) (y : MethodName) (code : ByteArray) (nL : Nat) (ret : FieldType) (fr lo : Nat) (av : List Value) (D : va_G) (cl : List vw_C) (tys : List (ClassId × FieldType)) (ws : va_W) (v : Value) : Prop :=
  Met l y (ws_ y code nL (some ret)) { frames := fr, cells := 0, slots := 0, locals := lo } (va_Pc av (fun U => va_P D cl ws U.heap ∧ va_K D cl tys U)) (fun _ st oc t => oc = .returned (some v) ∧ t.heap = st.heap) 0 0 (fun _ => False)
theorem ro_blind {av : List Value} {D : va_G} {cl : List vw_C} {tys : List (ClassId × FieldType)} {ws : va_W} : FrameBlind (va_Pc av (fun U => va_P D cl ws U.heap ∧ va_K D cl tys U)) := fun a U g mk q => by
  obtain ⟨q0, qP, qK⟩ := q
  exact ⟨q0, qP, va_K.moved (u := U) (U := U.calling g mk a) (Vm.Alike.refl U.vm) qK⟩
theorem ro_call {p : Program} {l : Launch} {e : Env} {R : Room} {s : State} {m : MethodId} {args : Array Value} {below : List Frame} {meth : Method} {c : Code} {H : Heap} {locs : List Loc} {cells slots : Nat} {Q : State → Prop} {pc : Nat} {ls : Array Slot} {rest st0 : List Value} {v : Value} (hr : va_Run p l e R s m args below meth c H locs cells slots 0 0 (F0 m pc ls st0) rest (fun st oc t => oc = .returned (some v) ∧ t.heap = st.heap) (fun _ => False)) (kk : W p l e R s m args below meth c H locs cells slots Q (F0 m (pc + 3) ls (v :: rest))) : W p l e R s m args below meth c H locs cells slots Q (F0 m pc ls st0) := by
  intro T hT X
  obtain ⟨v', st₀, t, T', L, h0, X', hL, e1, e2, ⟨hv, hz⟩, st⟩ := hr T hT X
  cases hv
  cases L with
  | cons q L => exact absurd (hL q List.mem_cons_self) (fun h => h)
  | nil =>
    rw [List.append_nil] at X'
    obtain ⟨t2, a, b⟩ := kk T' (by rw [e1, hz, h0]) X'
    exact ⟨t2, st t2 a, b⟩
theorem ro_preS {s : State} {H : Heap} {D : va_G} {cl : List vw_C} {tys : List (ClassId × FieldType)} {ws : va_W} {As : List Value} (hK : va_K D cl tys s) (hP : va_P D cl ws H) : PreS s H (va_Pc As (fun U => va_P D cl ws U.heap ∧ va_K D cl tys U)) As := ⟨ro_blind, fun U hU hW => ⟨rfl, by rw [hU]; exact hP, va_K.moved hW.alike hK⟩⟩
theorem ro_preV {s : State} {H : Heap} {D : va_G} {cl : List vw_C} {tys : List (ClassId × FieldType)} {ws : va_W} {As : List Value} {C : String} {b ci q0 : Nat} {qc : vw_C} {fs : List Value} (hK : va_K D cl tys s) (hP : va_P D cl ws H) (hc : cl[ci]? = some qc) (he : ws[q0]? = some (b, .inr (ci, fs))) (hC : qc.1 = C) : PreV s H C b (va_Pc (.ref b :: As) (fun U => va_P D cl ws U.heap ∧ va_K D cl tys U)) As := ⟨ro_blind, by rw [← hC]; exact va_recv hK hP hc he, fun U hU hW => ⟨rfl, by rw [hU]; exact hP, va_K.moved hW.alike hK⟩⟩
section RO
variable {l : Launch} {D : va_G} {cl : List vw_C} {tys : List (ClassId × FieldType)}
abbrev alW (o el : Nat) (mc sz : Int32) (cA : ClassId) (cap : Nat) (f : Nat → Option Nat) : va_W := [(o, .inr (6, [.int mc, .ref el, .int sz])), (el, .inl (cA, cap, .inr (.inr (.inr (.inr f)))))]
theorem al_size (hc : cl[6]? = some (RJ2, TJ2, 3)) (o : Nat) (ws : va_W) (mc sz : Int32) (el : Value) (h0 : ws[0]? = some (o, .inr (6, [.int mc, el, .int sz]))) : roMet l yJ2_size cJ2_size 1 .int 1 0 [.ref o] D cl tys ws (.int sz) := by
  refine Met.ofW (cc := cJ2_size) (maxL := 1) (ret := some .int) (by decide) rfl ?_
  intro p e s m args below meth c s₁ B hml hv
  obtain ⟨rfl, hP, hK⟩ := hv
  have hts := atoms_spec (ws := ws_ yJ2_size cJ2_size 1 (some .int)) B.pre
  have hts : ∀ w ∈ lw_all, w.before _ s = true := fun w h => hts w (List.mem_cons_of_mem _ h)
  have hown : s.vm.findClass RJ2 = some m.cls := findClass_of_methodNamed B.named
  have hl := lv_entry ([.ref o]) (n := 1) (Nat.le_of_ble_eq_true rfl)
  rw [lg_entry_eq]
  generalize (lg_sl ([.ref o]) ++ List.replicate (1 - (lg_sl ([.ref o])).length) Slot.unset).toArray = ls at hl ⊢
  have hl : lv_has ls 1 [(0, .ref o)] := hl
  refine lv_aload_n B.exec B.bytes dJ2_size_0 rfl (lv_at hl 0 rfl) ?_
  refine va_get (C := RJ2) (T := TJ2) (N := 3) (ref := RJ2) B.exec B.bytes hts in_J2 hown hK hP 0 h0 hc 2 (by decide) (hts _ q260) (fun _ h => h) rfl dJ2_size_1 ?_
  exact W.iret B.exec B.bytes B.returns (fun t ht _ => ⟨rfl, ht⟩) (fun _ h => by cases h) dJ2_size_4 B.notSynchronized
theorem al_elementData (hc : cl[6]? = some (RJ2, TJ2, 3)) (o el : Nat) (mc sz : Int32) (cA : ClassId) (cap t0 : Nat) (f : Nat → Option Nat) (ws : va_W) (i : Int32) (ht : tys[t0]? = some (cA, .object "java/lang/Object")) (h0 : ws[0]? = some (o, .inr (6, [.int mc, .ref el, .int sz]))) (h1 : ws[1]? = some (el, .inl (cA, cap, .inr (.inr (.inr (.inr f)))))) (hi : vp_in i cap) : roMet l yJ2_elementData cJ2_elementData 2 (.object "java/lang/Object") 1 0 [.ref o, .int i] D cl tys ws (va_rf (f i.toNatClampNeg)) := by
  refine Met.ofW (cc := cJ2_elementData) (maxL := 2) (ret := some (.object "java/lang/Object")) (by decide) rfl ?_
  intro p e s m args below meth c s₁ B hml hv
  obtain ⟨rfl, hP, hK⟩ := hv
  have hts := atoms_spec (ws := ws_ yJ2_elementData cJ2_elementData 2 (some (.object "java/lang/Object"))) B.pre
  have hts : ∀ w ∈ lw_all, w.before _ s = true := fun w h => hts w (List.mem_cons_of_mem _ h)
  have hown : s.vm.findClass RJ2 = some m.cls := findClass_of_methodNamed B.named
  have hl := lv_entry ([.ref o, .int i]) (n := 2) (Nat.le_of_ble_eq_true rfl)
  rw [lg_entry_eq]
  generalize (lg_sl ([.ref o, .int i]) ++ List.replicate (2 - (lg_sl ([.ref o, .int i])).length) Slot.unset).toArray = ls at hl ⊢
  have hl : lv_has ls 2 [(0, .ref o), (1, .int i)] := hl
  refine lv_aload_n B.exec B.bytes dJ2_elementData_0 rfl (lv_at hl 0 rfl) ?_
  refine va_get (C := RJ2) (T := TJ2) (N := 3) (ref := RJ2) B.exec B.bytes hts in_J2 hown hK hP 0 h0 hc 1 (by decide) (hts _ q259) (fun _ h => h) rfl dJ2_elementData_1 ?_
  refine lv_iload_n B.exec B.bytes dJ2_elementData_4 rfl (lv_at hl 1 rfl) ?_
  refine va_aldq B.exec B.bytes hK hP 1 t0 h1 ht hi dJ2_elementData_5 ?_
  refine W.aret B.exec B.bytes B.returns (Or.inl ⟨_, rfl⟩) ?_ (fun t ht _ => ⟨rfl, ht⟩) (fun _ h => by cases h) dJ2_elementData_6 B.notSynchronized
  cases f i.toNatClampNeg with
  | none => exact Or.inl rfl
  | some a => exact Or.inr ⟨a, rfl⟩
theorem pre_checkIndex (ws : va_W) (i n : Int32) (h0 : ¬ i < 0) (hn : i < n) : roMet l yJ7_checkIndex cJ7_checkIndex 3 .int 1 0 [.int i, .int n, .null] D cl tys ws (.int i) := by
  refine Met.ofW (cc := cJ7_checkIndex) (maxL := 3) (ret := some .int) (by decide) rfl ?_
  intro p e s m args below meth c s₁ B hml hv
  obtain ⟨rfl, hP, hK⟩ := hv
  have hl := lv_entry ([.int i, .int n, .null]) (n := 3) (Nat.le_of_ble_eq_true rfl)
  rw [lg_entry_eq]
  generalize (lg_sl ([.int i, .int n, .null]) ++ List.replicate (3 - (lg_sl ([.int i, .int n, .null])).length) Slot.unset).toArray = ls at hl ⊢
  have hl : lv_has ls 3 [(0, .int i), (1, .int n), (2, .null)] := hl
  refine lv_iload_n B.exec B.bytes dJ7_checkIndex_0 rfl (lv_at hl 0 rfl) ?_
  refine lv_if_lt (tgt := 9) B.exec B.bytes dJ7_checkIndex_1 (by decide) (fun c => absurd c h0) (fun _ => ?_)
  refine lv_iload_n B.exec B.bytes dJ7_checkIndex_4 rfl (lv_at hl 0 rfl) ?_
  refine lv_iload_n B.exec B.bytes dJ7_checkIndex_5 rfl (lv_at hl 1 rfl) ?_
  refine lv_icmp_lt (tgt := 16) B.exec B.bytes dJ7_checkIndex_6 (by decide) (fun _ => ?_) (fun c => absurd hn c)
  refine lv_iload_n B.exec B.bytes dJ7_checkIndex_16 rfl (lv_at hl 0 rfl) ?_
  exact W.iret B.exec B.bytes B.returns (fun t ht _ => ⟨rfl, ht⟩) (fun _ h => by cases h) dJ7_checkIndex_17 B.notSynchronized
theorem obj_checkIndex (ws : va_W) (i n : Int32) (h0 : ¬ i < 0) (hn : i < n) : roMet l yJ6_checkIndex cJ6_checkIndex 2 .int 2 22 [.int i, .int n] D cl tys ws (.int i) := by
  refine Met.ofW (cc := cJ6_checkIndex) (maxL := 2) (ret := some .int) (by decide) rfl ?_
  intro p e s m args below meth c s₁ B hml hv
  obtain ⟨rfl, hP, hK⟩ := hv
  have hts := atoms_spec (ws := ws_ yJ6_checkIndex cJ6_checkIndex 2 (some .int)) B.pre
  have hts : ∀ w ∈ lw_all, w.before _ s = true := fun w h => hts w (List.mem_cons_of_mem _ h)
  have hown : s.vm.findClass RJ6 = some m.cls := findClass_of_methodNamed B.named
  have hl := lv_entry ([.int i, .int n]) (n := 2) (Nat.le_of_ble_eq_true rfl)
  rw [lg_entry_eq]
  generalize (lg_sl ([.int i, .int n]) ++ List.replicate (2 - (lg_sl ([.int i, .int n])).length) Slot.unset).toArray = ls at hl ⊢
  have hl : lv_has ls 2 [(0, .int i), (1, .int n)] := hl
  refine lv_iload_n B.exec B.bytes dJ6_checkIndex_0 rfl (lv_at hl 0 rfl) ?_
  refine lv_iload_n B.exec B.bytes dJ6_checkIndex_1 rfl (lv_at hl 1 rfl) ?_
  refine lv_null B.exec B.bytes dJ6_checkIndex_2 ?_
  have cw := va_cwS (R := (headSpec (ws_ yJ6_checkIndex cJ6_checkIndex 2 (some .int)) { frames := 2, cells := 0, slots := 0, locals := 22 }).room) (s := s) (args := _) (own := RJ6) (index := 105) (y := yJ7_checkIndex) (bytes := cJ7_checkIndex) (maxL := 3) (ret := some .int) (rm := { frames := 1, cells := 0, slots := 0, locals := 0 }) (mc := 0) (ms := 0) 3 hts (lw_S q602 q603 q129 q604) rfl rfl rfl ⟨by decide, by decide, rfl⟩ ⟨Nat.le_of_ble_eq_true rfl, Nat.le_of_ble_eq_true rfl⟩
  refine ro_call (v := .int i) (rest := []) (va_runS ⟨B.exec, B.bytes, hml, hown, hts⟩ (pre_checkIndex (l := l) (D := D) (cl := cl) (tys := tys) ws i n h0 hn) cw (ro_preS hK hP) rfl rfl hl.1 rfl (lv_room (Nat.le_of_ble_eq_true rfl)) dJ6_checkIndex_3 ⟨Nat.zero_le _, Nat.zero_le _⟩) ?_
  exact W.iret B.exec B.bytes B.returns (fun t ht _ => ⟨rfl, ht⟩) (fun _ h => by cases h) dJ6_checkIndex_6 B.notSynchronized
theorem al_get (hc : cl[6]? = some (RJ2, TJ2, 3)) (o el : Nat) (mc sz : Int32) (cA : ClassId) (cap t0 : Nat) (f : Nat → Option Nat) (ws : va_W) (i : Int32) (ht : tys[t0]? = some (cA, .object "java/lang/Object")) (h0 : ws[0]? = some (o, .inr (6, [.int mc, .ref el, .int sz]))) (h1 : ws[1]? = some (el, .inl (cA, cap, .inr (.inr (.inr (.inr f)))))) (hi : vp_in i cap) (hi0 : ¬ i < 0) (hisz : i < sz) : roMet l yJ2_get cJ2_get 2 (.object "java/lang/Object") 3 43 [.ref o, .int i] D cl tys ws (va_rf (f i.toNatClampNeg)) := by
  refine Met.ofW (cc := cJ2_get) (maxL := 2) (ret := some (.object "java/lang/Object")) (by decide) rfl ?_
  intro p e s m args below meth c s₁ B hml hv
  obtain ⟨rfl, hP, hK⟩ := hv
  have hts := atoms_spec (ws := ws_ yJ2_get cJ2_get 2 (some (.object "java/lang/Object"))) B.pre
  have hts : ∀ w ∈ lw_all, w.before _ s = true := fun w h => hts w (List.mem_cons_of_mem _ h)
  have hown : s.vm.findClass RJ2 = some m.cls := findClass_of_methodNamed B.named
  have hl := lv_entry ([.ref o, .int i]) (n := 2) (Nat.le_of_ble_eq_true rfl)
  rw [lg_entry_eq]
  generalize (lg_sl ([.ref o, .int i]) ++ List.replicate (2 - (lg_sl ([.ref o, .int i])).length) Slot.unset).toArray = ls at hl ⊢
  have hl : lv_has ls 2 [(0, .ref o), (1, .int i)] := hl
  refine lv_iload_n B.exec B.bytes dJ2_get_0 rfl (lv_at hl 1 rfl) ?_
  refine lv_aload_n B.exec B.bytes dJ2_get_1 rfl (lv_at hl 0 rfl) ?_
  refine va_get (C := RJ2) (T := TJ2) (N := 3) (ref := RJ2) B.exec B.bytes hts in_J2 hown hK hP 0 h0 hc 2 (by decide) (hts _ q260) (fun _ h => h) rfl dJ2_get_2 ?_
  have cw := va_cwS (R := (headSpec (ws_ yJ2_get cJ2_get 2 (some (.object "java/lang/Object"))) { frames := 3, cells := 0, slots := 0, locals := 43 }).room) (s := s) (args := _) (own := RJ2) (index := 118) (y := yJ6_checkIndex) (bytes := cJ6_checkIndex) (maxL := 2) (ret := some .int) (rm := { frames := 2, cells := 0, slots := 0, locals := 22 }) (mc := 0) (ms := 0) 2 hts (lw_S q599 q600 q128 q601) rfl rfl rfl ⟨by decide, by decide, rfl⟩ ⟨Nat.le_of_ble_eq_true rfl, Nat.le_of_ble_eq_true rfl⟩
  refine ro_call (v := .int i) (rest := []) (va_runS ⟨B.exec, B.bytes, hml, hown, hts⟩ (obj_checkIndex (l := l) (D := D) (cl := cl) (tys := tys) ws i sz hi0 hisz) cw (ro_preS hK hP) rfl rfl hl.1 rfl (lv_room (Nat.le_of_ble_eq_true rfl)) dJ2_get_5 ⟨Nat.zero_le _, Nat.zero_le _⟩) ?_
  refine lv_pop B.exec B.bytes dJ2_get_8 rfl ?_
  refine lv_aload_n B.exec B.bytes dJ2_get_9 rfl (lv_at hl 0 rfl) ?_
  refine lv_iload_n B.exec B.bytes dJ2_get_10 rfl (lv_at hl 1 rfl) ?_
  have cw2 : CallW (headSpec (ws_ yJ2_get cJ2_get 2 (some (.object "java/lang/Object"))) { frames := 3, cells := 0, slots := 0, locals := 43 }).room s _ RJ2 RJ2 123 yJ2_elementData cJ2_elementData 2 (some (.object "java/lang/Object")) (ws_ yJ2_elementData cJ2_elementData 2 (some (.object "java/lang/Object"))) { frames := 1, cells := 0, slots := 0, locals := 0 } 0 0 1 := cwV 1 hts (lw_V q605 q606 q607 q114 q608) rfl rfl rfl ⟨rfl, by decide, by decide, rfl⟩ ⟨Nat.le_of_ble_eq_true rfl, Nat.le_of_ble_eq_true rfl⟩
  refine ro_call (v := va_rf (f i.toNatClampNeg)) (rest := []) (va_runV ⟨B.exec, B.bytes, hml, hown, hts⟩ (al_elementData (l := l) (D := D) (cl := cl) (tys := tys) hc o el mc sz cA cap t0 f ws i ht h0 h1 hi) cw2 (ro_preV (As := [.int i]) hK hP hc h0 rfl) rfl rfl hl.1 rfl (lv_room (Nat.le_of_ble_eq_true rfl)) dJ2_get_11 ⟨Nat.zero_le _, Nat.zero_le _⟩) ?_
  refine W.aret B.exec B.bytes B.returns (Or.inl ⟨_, rfl⟩) ?_ (fun t ht _ => ⟨rfl, ht⟩) (fun _ h => by cases h) dJ2_get_14 B.notSynchronized
  cases f i.toNatClampNeg with
  | none => exact Or.inl rfl
  | some a => exact Or.inr ⟨a, rfl⟩
end RO
section ZLISTS
variable {Γ : ZG} {cc : ByteArray} {own : String} {fr lo : Nat} {k n : Nat} {σ : ZS} {xs : va_W} {pc : Nat} {lv : List (Nat × Value)} {st : List Value} {l : Launch} {D : va_G} {ds : Nat → ClassId} {ad : Nat → Nat} {nL mc0 ms0 : Nat} {e : Int}
/-- the list of encodations as a world of two cells -/
abbrev enW (ds : Nat → ClassId) (ad : Nat → Nat) (σ : ZS) : va_W := alW (ad 51) (ad 52) (iz (σ 51 0)) (iz (σ 51 2)) (ds 5) 5 (fun j => ([53, 56, 59, 62, 64] : List Nat)[j]?.map ad)
theorem en_sub {cl : List vw_C} {H : Heap} (hP : va_P D cl (zt_W (ΘC D ds ad) σ xs) H) : va_P D cl (enW ds ad σ) H := by
  intro i q hi
  match i, hi with
  | 0, hi => exact hP 51 q (by rw [zt_at (show 51 < zt_N (ΘC D ds ad) from Nat.le_of_ble_eq_true rfl)]; exact hi)
  | 1, hi => exact hP 52 q (by rw [zt_at (show 52 < zt_N (ΘC D ds ad) from Nat.le_of_ble_eq_true rfl)]; exact hi)
  | i + 2, hi => cases hi
theorem encC_list {e : Int} (he : 0 ≤ e ∧ e < 5) : ([53, 56, 59, 62, 64] : List Nat)[e.toNat]?.map ad = some (ad (encC e)) := by
  obtain ⟨h0, h1⟩ := he
  have : e = 0 ∨ e = 1 ∨ e = 2 ∨ e = 3 ∨ e = 4 := by omega
  rcases this with rfl | rfl | rfl | rfl | rfl <;> rfl
theorem z_enSize {index : Nat} (hl1 : Cond.methodLink own index yJ2_size ∈ lw_all) (X : ZX Γ cc own fr lo) (K : ZCap Γ l (ΘC D ds ad) nL mc0 ms0) (hrm : zroom 2 60 fr lo = true) (hst : (st.map fun v => v.category).sum ≤ 8) (d : decode cc pc = .ok (.invokevirtual index, 3)) (hcs : k ≤ mc0 ∧ n ≤ ms0) (h : Z Γ k n σ xs (pc + 3) lv (.int (iz (σ 51 2)) :: st)) : Z Γ k n σ xs pc lv (.ref (ad 51) :: st) := by
  obtain ⟨rfl, hT, hn, hc1, hc2⟩ := K
  intro H locs ls hP hD hS hv
  have hP2 := hP
  rw [hT] at hP2
  have hK := X.hK
  rw [hT] at hK
  have hr := zroom_le (f := 2) (l := 60) hrm (by decide)
  unfold zroom at hr
  rw [Bool.and_eq_true] at hr
  have cw : CallW (zg_R Γ) (zg_s Γ) (zg_a Γ) own RJ2 index yJ2_size cJ2_size 1 (some .int) (ws_ yJ2_size cJ2_size 1 (some .int)) { frames := 1, cells := 0, slots := 0, locals := 0 } 0 0 0 := cwV 0 X.hts (lw_V hl1 q592 q593 q114 q594) rfl rfl rfl ⟨rfl, by decide, by decide, rfl⟩ ⟨by rw [X.hfr]; exact Nat.le_of_ble_eq_true hr.1, by rw [X.hlo]; exact Nat.le_trans (Nat.le_of_ble_eq_true rfl) (Nat.le_of_ble_eq_true hr.2)⟩
  exact ro_call (va_runV (As := []) (zx_fix X) (al_size rfl (ad 51) (enW ds ad σ) (iz (σ 51 0)) (iz (σ 51 2)) (.ref (ad 52)) rfl) cw (ro_preV (As := []) hK (en_sub hP2) (ci := 6) (q0 := 0) rfl rfl rfl) rfl rfl hv.1 rfl (lv_room hst) d ⟨by rw [hc1]; exact hcs.1, by rw [hc2]; exact hcs.2⟩) (h H locs ls hP hD hS hv)
theorem z_enGet {index : Nat} (hl1 : Cond.methodLink own index yJ2_get ∈ lw_all) (X : ZX Γ cc own fr lo) (K : ZCap Γ l (ΘC D ds ad) nL mc0 ms0) (hrm : zroom 4 90 fr lo = true) (he : 0 ≤ e ∧ e < 5) (hz : InR (σ 51 2) ∧ e < σ 51 2) (hst : (st.map fun v => v.category).sum ≤ 8) (d : decode cc pc = .ok (.invokevirtual index, 3)) (hcs : k ≤ mc0 ∧ n ≤ ms0) (h : Z Γ k n σ xs (pc + 3) lv (.ref (ad (encC e)) :: st)) : Z Γ k n σ xs pc lv (.int (iz e) :: .ref (ad 51) :: st) := by
  obtain ⟨rfl, hT, hn, hc1, hc2⟩ := K
  intro H locs ls hP hD hS hv
  have hP2 := hP
  rw [hT] at hP2
  have hK := X.hK
  rw [hT] at hK
  have hr := zroom_le (f := 4) (l := 90) hrm (by decide)
  unfold zroom at hr
  rw [Bool.and_eq_true] at hr
  have hie : InR e := ⟨by omega, by omega⟩
  have cw : CallW (zg_R Γ) (zg_s Γ) (zg_a Γ) own RJ2 index yJ2_get cJ2_get 2 (some (.object "java/lang/Object")) (ws_ yJ2_get cJ2_get 2 (some (.object "java/lang/Object"))) { frames := 3, cells := 0, slots := 0, locals := 43 } 0 0 1 := cwV 1 X.hts (lw_V hl1 q596 q597 q114 q598) rfl rfl rfl ⟨rfl, by decide, by decide, rfl⟩ ⟨by rw [X.hfr]; exact Nat.le_of_ble_eq_true hr.1, by rw [X.hlo]; exact Nat.le_trans (Nat.le_of_ble_eq_true rfl) (Nat.le_of_ble_eq_true hr.2)⟩
  have hg := al_get (l := zg_l Γ) (D := D) (cl := zt_cl (ΘC D ds ad)) (tys := zt_ty (ΘC D ds ad)) rfl (ad 51) (ad 52) (iz (σ 51 0)) (iz (σ 51 2)) (ds 5) 5 5 (fun j => ([53, 56, 59, 62, 64] : List Nat)[j]?.map ad) (enW ds ad σ) (iz e) rfl rfl rfl (iz_vp_in he.1 (by exact he.2) (by decide)) (fun q => absurd ((iz_lt0 hie).mp q) (by omega)) ((iz_lt hie hz.1).mpr hz.2)
  rw [iz_clamp (n := 5) he.1 (by exact he.2) (by decide), encC_list he] at hg
  exact ro_call (va_runV (As := [.int (iz e)]) (zx_fix X) hg cw (ro_preV (As := [.int (iz e)]) hK (en_sub hP2) (ci := 6) (q0 := 0) rfl rfl rfl) rfl rfl hv.1 rfl (lv_room hst) d ⟨by rw [hc1]; exact hcs.1, by rw [hc2]; exact hcs.2⟩) (h H locs ls hP hD hS hv)
theorem z_enCast {index o : Nat} (hl1 : Cond.classLink own index "MatrixPress$Encodation" ∈ lw_all) (X : ZX Γ cc own fr lo) (K : ZCap Γ l (ΘC D ds ad) nL mc0 ms0) (ho : isEn o) (d : decode cc pc = .ok (.checkcast index, 3)) (h : Z Γ k n σ xs (pc + 3) lv (.ref (ad o) :: st)) : Z Γ k n σ xs pc lv (.ref (ad o) :: st) := by
  obtain ⟨rfl, hT, hn, hc1, hc2⟩ := K
  intro H locs ls hP hD hS hv
  have hP2 := hP
  rw [hT] at hP2
  have hK := X.hK
  rw [hT] at hK
  have key : ∀ (C : String) (q ci : Nat) (ks : List Nat) (qc : vw_C), q < 75 → LC q = .inl (ci, ks) → (zt_cl (ΘC D ds ad))[ci]? = some qc → qc.1 = C → ∃ cell : Cell, H[ad q]? = some cell ∧ cell.vm.isStatics = false ∧ (zg_s Γ).vm.findClass C = some cell.cls := by
    intro C q ci ks qc hq hL hc hC
    have hg := zt_at (Θ := ΘC D ds ad) (σ := σ) (xs := xs) (i := q) hq
    rw [show zt_L (ΘC D ds ad) q = .inl (ci, ks) from hL] at hg
    rw [← hC]
    exact va_recv hK hP2 hc hg
  rcases ho with rfl | rfl | rfl | rfl | rfl
  · exact va_castY X.hx X.hb X.hown (X.hts _ hl1) (X.nw q1742 rfl) (key _ 53 7 _ _ (by decide) rfl rfl rfl) d (h H locs ls hP hD hS hv)
  · exact va_castY X.hx X.hb X.hown (X.hts _ hl1) (X.nw q1742 rfl) (key _ 56 7 _ _ (by decide) rfl rfl rfl) d (h H locs ls hP hD hS hv)
  · exact va_castY X.hx X.hb X.hown (X.hts _ hl1) (X.nw q1743 rfl) (key _ 59 8 _ _ (by decide) rfl rfl rfl) d (h H locs ls hP hD hS hv)
  · exact va_castY X.hx X.hb X.hown (X.hts _ hl1) (X.nw q1741 rfl) (key _ 62 9 _ _ (by decide) rfl rfl rfl) d (h H locs ls hP hD hS hv)
  · exact va_castY X.hx X.hb X.hown (X.hts _ hl1) (X.nw q1740 rfl) (key _ 64 10 _ _ (by decide) rfl rfl rfl) d (h H locs ls hP hD hS hv)
end ZLISTS
