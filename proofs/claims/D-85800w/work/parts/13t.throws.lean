/-! what is no stream: its constructor; throws out of a method -/
def exA (o : Nat) : Nat → Prop := fun q => q = o
def exPre (D : va_G) (cl : List vw_C) (o : Nat) (fs : List Value) (av : List Value) : Array Value → State → Prop := va_Pc av (fun U => va_P D cl [(o, .inr (13, fs))] U.heap ∧ va_K D cl [] U ∧ zSt (exA o) U U.heap)
def exMet (l : Launch) (D : va_G) (cl : List vw_C) (y : MethodName) (code : ByteArray) (nL fr lo : Nat) (o : Nat) (fs : List Value) (av : List Value) : Prop :=
  Met l y (ws_ y code nL none) { frames := fr, cells := 0, slots := 0, locals := lo } (exPre D cl o fs av) (va_Qv (fun (fs' : List Value) => fs'.length = 6) (fun fs' t => va_P D cl [(o, .inr (13, fs'))] t.heap) (exA o)) 0 0 (exA o)
theorem exPre_blind {D : va_G} {cl : List vw_C} {o : Nat} {fs av : List Value} : FrameBlind (exPre D cl o fs av) := fun a U g mk q => by
  obtain ⟨q0, qP, qK, qS⟩ := q
  exact ⟨q0, qP, va_K.moved (u := U) (U := U.calling g mk a) (Vm.Alike.refl U.vm) qK, ⟨qS.1.moved (u := U) (U := U.calling g mk a) (Vm.Alike.refl U.vm), qS.2.moved (u := U) (U := U.calling g mk a) (Vm.Alike.refl U.vm)⟩⟩
theorem ex_preS {s : State} {H H0 : Heap} {A : Nat → Prop} {locs : List Loc} {D : va_G} {cl : List vw_C} {o : Nat} {fs As : List Value} (hK : va_K D cl [] s) (hP : va_P D cl [(o, .inr (13, fs))] H) (hz : zSt A s H0) (hS : va_S A H0 H locs) (hA : A o) : PreS s H (exPre D cl o fs As) As := ⟨exPre_blind, fun U hU hW => ⟨rfl, by rw [hU]; exact hP, va_K.moved hW.alike hK, by rw [hU]; exact hz.go hS hW.alike (fun q h => by rw [h]; exact hA)⟩⟩
theorem nar_rf {ty : FieldType} {v : Value} (ht : (∃ c, ty = .object c) ∨ ∃ c, ty = .array c) (hv : v = .null ∨ ∃ t : Nat, v = .ref t) : narrow ty v = v ∧ fits ty v = true := by
  rcases ht with ⟨c, rfl⟩ | ⟨c, rfl⟩ <;> rcases hv with rfl | ⟨t, rfl⟩ <;> exact ⟨rfl, rfl⟩
theorem ex_D {o : Nat} {fs : List Value} : va_D (exA o) [(o, .inr (13, fs))] := by
  refine ⟨fun i j p q hi hj _ => ?_, fun i q hi => ?_⟩
  · have h1 := (List.getElem?_eq_some_iff.mp hi).1
    have h2 := (List.getElem?_eq_some_iff.mp hj).1
    simp at h1 h2
    omega
  · cases i with
    | zero => cases hi; rfl
    | succ i => cases hi
section EX
variable {l : Launch} {D : va_G} {cl : List vw_C}
set_option maxRecDepth 100000 in
theorem ex_throwable (hc : cl[13]? = some (RX15, TX15, 6)) (o : Nat) (fs : List Value) (hf : fs.length = 6) : exMet l D cl yJ8_init_2 cJ8_init_2 5 1 12 o fs [.ref o, .null, .null, .int 0, .int 0] := by
  refine Met.ofW (cc := cJ8_init_2) (maxL := 5) (ret := none) (by decide) rfl ?_
  intro p e s m args below meth c s₁ B hml hv
  obtain ⟨rfl, hP, hK, hz⟩ := hv
  have hts := atoms_spec (ws := ws_ yJ8_init_2 cJ8_init_2 5 none) B.pre
  have hts : ∀ w ∈ lw_all, w.before _ s = true := fun w h => hts w (List.mem_cons_of_mem _ h)
  have hown : s.vm.findClass RJ8 = some m.cls := findClass_of_methodNamed B.named
  have hS : va_S (exA o) s.heap s.heap [] := va_S.rf
  have hD : va_D (exA o) [(o, .inr (13, fs))] := ex_D
  have hl := lv_entry ([.ref o, .null, .null, .int 0, .int 0]) (n := 5) (Nat.le_of_ble_eq_true rfl)
  rw [lg_entry_eq]
  generalize (lg_sl ([.ref o, .null, .null, .int 0, .int 0]) ++ List.replicate (5 - (lg_sl ([.ref o, .null, .null, .int 0, .int 0])).length) Slot.unset).toArray = ls at hl ⊢
  have hl : lv_has ls 5 [(0, .ref o), (1, .null), (2, .null), (3, .int 0), (4, .int 0)] := hl
  obtain ⟨v1, hz1, hv1⟩ : ∃ v, va_Z "java/lang/Throwable" "UNASSIGNED_STACK" "[Ljava/lang/StackTraceElement;" v (exA o) s s.heap ∧ (v = .null ∨ ∃ t : Nat, v = .ref t) := by
    rcases hz.1.1 with h | ⟨t, h⟩
    · exact ⟨_, h, Or.inl rfl⟩
    · exact ⟨_, h, Or.inr ⟨t, rfl⟩⟩
  obtain ⟨v2, hz2, hv2⟩ : ∃ v, va_Z "java/lang/Throwable" "SUPPRESSED_SENTINEL" "Ljava/util/List;" v (exA o) s s.heap ∧ (v = .null ∨ ∃ t : Nat, v = .ref t) := by
    rcases hz.2.1 with h | ⟨t, h⟩
    · exact ⟨_, h, Or.inl rfl⟩
    · exact ⟨_, h, Or.inr ⟨t, rfl⟩⟩
  refine lv_aload_n B.exec B.bytes dJ8_init_2_0 rfl (lv_at hl 0 rfl) ?_
  refine W.objInit B.exec B.bytes hown (hts _ q858) (hts _ q143) (hts _ q144) rfl (by rw [hml]; exact hl.1) rfl dJ8_init_2_1 (Nat.le_of_ble_eq_true rfl) (Nat.le_of_ble_eq_true rfl) ?_
  refine W.eq (g2 := F0 m 4 ls []) rfl ?_
  refine lv_aload_n B.exec B.bytes dJ8_init_2_4 rfl (lv_at hl 0 rfl) ?_
  refine lv_aload_n B.exec B.bytes dJ8_init_2_5 rfl (lv_at hl 0 rfl) ?_
  refine va_put (ref := RJ8) (C := RX15) (T := TX15) (N := 6) B.exec B.bytes hts in_X15 tyX15 tyX15_ok nmX15 hown hK hP hD hS 0 rfl hc 0 (by decide) (hts _ q886) (fun _ h => h) rfl (ty := .object "java/lang/Throwable") (by decide +kernel) rfl rfl (by rw [hf]; decide) dJ8_init_2_6 (fun H locs hP hD hS => ?_)
  refine lv_aload_n B.exec B.bytes dJ8_init_2_9 rfl (lv_at hl 0 rfl) ?_
  refine va_gets (ref := "java/lang/Throwable") B.exec B.bytes hz1 hS hown (hts _ q859) (fun _ h => h) dJ8_init_2_10 ?_
  refine va_put (ref := RJ8) (C := RX15) (T := TX15) (N := 6) B.exec B.bytes hts in_X15 tyX15 tyX15_ok nmX15 hown hK hP hD hS 0 rfl hc 1 (by decide) (hts _ q887) (fun _ h => h) rfl (ty := .array (.object "java/lang/StackTraceElement")) (by decide +kernel) (nar_rf (Or.inr ⟨_, rfl⟩) hv1).1 (nar_rf (Or.inr ⟨_, rfl⟩) hv1).2 (by simp [hf]) dJ8_init_2_13 (fun H locs hP hD hS => ?_)
  refine lv_aload_n B.exec B.bytes dJ8_init_2_16 rfl (lv_at hl 0 rfl) ?_
  refine va_gets (ref := "java/lang/Throwable") B.exec B.bytes hz2 hS hown (hts _ q861) (fun _ h => h) dJ8_init_2_17 ?_
  refine va_put (ref := RJ8) (C := RX15) (T := TX15) (N := 6) B.exec B.bytes hts in_X15 tyX15 tyX15_ok nmX15 hown hK hP hD hS 0 rfl hc 2 (by decide) (hts _ q888) (fun _ h => h) rfl (ty := .object "java/util/List") (by decide +kernel) (nar_rf (Or.inl ⟨_, rfl⟩) hv2).1 (nar_rf (Or.inl ⟨_, rfl⟩) hv2).2 (by simp [hf]) dJ8_init_2_20 (fun H locs hP hD hS => ?_)
  refine lv_iload B.exec B.bytes dJ8_init_2_23 (lv_at hl 4 rfl) ?_
  refine lv_if_eq (tgt := 36) B.exec B.bytes dJ8_init_2_25 (by decide) (fun _ => ?_) (fun c => absurd rfl c)
  refine lv_aload_n B.exec B.bytes dJ8_init_2_36 rfl (lv_at hl 0 rfl) ?_
  refine lv_null B.exec B.bytes dJ8_init_2_37 ?_
  refine va_put (ref := RJ8) (C := RX15) (T := TX15) (N := 6) B.exec B.bytes hts in_X15 tyX15 tyX15_ok nmX15 hown hK hP hD hS 0 rfl hc 1 (by decide) (hts _ q887) (fun _ h => h) rfl (ty := .array (.object "java/lang/StackTraceElement")) (by decide +kernel) rfl rfl (by simp [hf]) dJ8_init_2_38 (fun H locs hP hD hS => ?_)
  refine lv_aload_n B.exec B.bytes dJ8_init_2_41 rfl (lv_at hl 0 rfl) ?_
  refine lv_aload_nN B.exec B.bytes dJ8_init_2_42 rfl (lv_at hl 1 rfl) ?_
  refine va_put (ref := RJ8) (C := RX15) (T := TX15) (N := 6) B.exec B.bytes hts in_X15 tyX15 tyX15_ok nmX15 hown hK hP hD hS 0 rfl hc 3 (by decide) (hts _ q885) (fun _ h => h) rfl (ty := .object "java/lang/String") (by decide +kernel) rfl rfl (by simp [hf]) dJ8_init_2_43 (fun H locs hP hD hS => ?_)
  refine lv_aload_n B.exec B.bytes dJ8_init_2_46 rfl (lv_at hl 0 rfl) ?_
  refine lv_aload_nN B.exec B.bytes dJ8_init_2_47 rfl (lv_at hl 2 rfl) ?_
  refine va_put (ref := RJ8) (C := RX15) (T := TX15) (N := 6) B.exec B.bytes hts in_X15 tyX15 tyX15_ok nmX15 hown hK hP hD hS 0 rfl hc 0 (by decide) (hts _ q886) (fun _ h => h) rfl (ty := .object "java/lang/Throwable") (by decide +kernel) rfl rfl (by simp [hf]) dJ8_init_2_48 (fun H locs hP hD hS => ?_)
  refine lv_iload_n B.exec B.bytes dJ8_init_2_51 rfl (lv_at hl 3 rfl) ?_
  refine lv_if_ne (tgt := 60) B.exec B.bytes dJ8_init_2_52 (by decide) (fun c => absurd rfl c) (fun _ => ?_)
  refine lv_aload_n B.exec B.bytes dJ8_init_2_55 rfl (lv_at hl 0 rfl) ?_
  refine lv_null B.exec B.bytes dJ8_init_2_56 ?_
  refine va_put (ref := RJ8) (C := RX15) (T := TX15) (N := 6) B.exec B.bytes hts in_X15 tyX15 tyX15_ok nmX15 hown hK hP hD hS 0 rfl hc 2 (by decide) (hts _ q888) (fun _ h => h) rfl (ty := .object "java/util/List") (by decide +kernel) rfl rfl (by simp [hf]) dJ8_init_2_57 (fun H locs hP hD hS => ?_)
  obtain ⟨F, hF, hP⟩ : ∃ F : List Value, F.length = 6 ∧ va_P D cl [(o, .inr (13, F))] H := ⟨((((((fs.set 0 (.ref o)).set 1 v1).set 2 v2).set 1 .null).set 3 .null).set 0 .null).set 2 .null, by simp [hf], hP⟩
  exact W.vret B.exec B.bytes B.returns (fun t ht _ => ⟨⟨F, rfl, hF, by show va_P D cl [(o, .inr (13, F))] t.heap; rw [ht]; exact hP⟩, hS.F ht⟩) hS.2.2 dJ8_init_2_60 B.notSynchronized
set_option maxRecDepth 100000 in
theorem ex_exception (hc : cl[13]? = some (RX15, TX15, 6)) (o : Nat) (fs : List Value) (hf : fs.length = 6) : exMet l D cl yJ9_init_2 cJ9_init_2 5 2 36 o fs [.ref o, .null, .null, .int 0, .int 0] := by
  refine Met.ofW (cc := cJ9_init_2) (maxL := 5) (ret := none) (by decide) rfl ?_
  intro p e s m args below meth c s₁ B hml hv
  obtain ⟨rfl, hP, hK, hz⟩ := hv
  have hts := atoms_spec (ws := ws_ yJ9_init_2 cJ9_init_2 5 none) B.pre
  have hts : ∀ w ∈ lw_all, w.before _ s = true := fun w h => hts w (List.mem_cons_of_mem _ h)
  have hown : s.vm.findClass RJ9 = some m.cls := findClass_of_methodNamed B.named
  have hS : va_S (exA o) s.heap s.heap [] := va_S.rf
  have hl := lv_entry ([.ref o, .null, .null, .int 0, .int 0]) (n := 5) (Nat.le_of_ble_eq_true rfl)
  rw [lg_entry_eq]
  generalize (lg_sl ([.ref o, .null, .null, .int 0, .int 0]) ++ List.replicate (5 - (lg_sl ([.ref o, .null, .null, .int 0, .int 0])).length) Slot.unset).toArray = ls at hl ⊢
  have hl : lv_has ls 5 [(0, .ref o), (1, .null), (2, .null), (3, .int 0), (4, .int 0)] := hl
  refine lv_aload_n B.exec B.bytes dJ9_init_2_0 rfl (lv_at hl 0 rfl) ?_
  refine lv_aload_nN B.exec B.bytes dJ9_init_2_1 rfl (lv_at hl 1 rfl) ?_
  refine lv_aload_nN B.exec B.bytes dJ9_init_2_2 rfl (lv_at hl 2 rfl) ?_
  refine lv_iload_n B.exec B.bytes dJ9_init_2_3 rfl (lv_at hl 3 rfl) ?_
  refine lv_iload B.exec B.bytes dJ9_init_2_4 (lv_at hl 4 rfl) ?_
  have cw := cwI (R := (headSpec (ws_ yJ9_init_2 cJ9_init_2 5 none) { frames := 2, cells := 0, slots := 0, locals := 36 }).room) (s := s) (args := _) (own := RJ9) (index := 16) (y := yJ8_init_2) (bytes := cJ8_init_2) (maxL := 5) (rm := { frames := 1, cells := 0, slots := 0, locals := 12 }) (mc := 0) (ms := 0) 4 hts (lw_meth q1015) rfl rfl rfl (hts _ q131) (hts _ q1013) (hts _ q1014) rfl ⟨by decide, by decide, rfl⟩ ⟨Nat.le_of_ble_eq_true rfl, Nat.le_of_ble_eq_true rfl⟩
  refine va_callv (A0 := exA o) (va_runI (As := [.null, .null, .int 0, .int 0]) (rest := []) ⟨B.exec, B.bytes, hml, hown, hts⟩ (ex_throwable (l := l) hc o fs hf) cw (ex_preS (As := [.ref o, .null, .null, .int 0, .int 0]) hK hP hz hS rfl) rfl rfl hl.1 rfl (lv_room (Nat.le_of_ble_eq_true rfl)) dJ9_init_2_6 ⟨Nat.zero_le _, Nat.zero_le _⟩) hS (fun q _ h => h) (fun q h => h) (fun fs' t H1 locs1 ht hvm hp hB hz1 hk1 hS1 => ?_)
  exact W.vret B.exec B.bytes B.returns (fun t' ht' _ => ⟨⟨fs', rfl, hp, by show va_P D cl [(o, .inr (13, fs'))] t'.heap; rw [ht', ← ht]; exact hB⟩, hS1.F ht'⟩) hS1.2.2 dJ9_init_2_9 B.notSynchronized
set_option maxRecDepth 100000 in
theorem ex_runtime (hc : cl[13]? = some (RX15, TX15, 6)) (o : Nat) (fs : List Value) (hf : fs.length = 6) : exMet l D cl yJ10_init_2 cJ10_init_2 5 3 60 o fs [.ref o, .null, .null, .int 0, .int 0] := by
  refine Met.ofW (cc := cJ10_init_2) (maxL := 5) (ret := none) (by decide) rfl ?_
  intro p e s m args below meth c s₁ B hml hv
  obtain ⟨rfl, hP, hK, hz⟩ := hv
  have hts := atoms_spec (ws := ws_ yJ10_init_2 cJ10_init_2 5 none) B.pre
  have hts : ∀ w ∈ lw_all, w.before _ s = true := fun w h => hts w (List.mem_cons_of_mem _ h)
  have hown : s.vm.findClass RJ10 = some m.cls := findClass_of_methodNamed B.named
  have hS : va_S (exA o) s.heap s.heap [] := va_S.rf
  have hl := lv_entry ([.ref o, .null, .null, .int 0, .int 0]) (n := 5) (Nat.le_of_ble_eq_true rfl)
  rw [lg_entry_eq]
  generalize (lg_sl ([.ref o, .null, .null, .int 0, .int 0]) ++ List.replicate (5 - (lg_sl ([.ref o, .null, .null, .int 0, .int 0])).length) Slot.unset).toArray = ls at hl ⊢
  have hl : lv_has ls 5 [(0, .ref o), (1, .null), (2, .null), (3, .int 0), (4, .int 0)] := hl
  refine lv_aload_n B.exec B.bytes dJ10_init_2_0 rfl (lv_at hl 0 rfl) ?_
  refine lv_aload_nN B.exec B.bytes dJ10_init_2_1 rfl (lv_at hl 1 rfl) ?_
  refine lv_aload_nN B.exec B.bytes dJ10_init_2_2 rfl (lv_at hl 2 rfl) ?_
  refine lv_iload_n B.exec B.bytes dJ10_init_2_3 rfl (lv_at hl 3 rfl) ?_
  refine lv_iload B.exec B.bytes dJ10_init_2_4 (lv_at hl 4 rfl) ?_
  have cw := cwI (R := (headSpec (ws_ yJ10_init_2 cJ10_init_2 5 none) { frames := 3, cells := 0, slots := 0, locals := 60 }).room) (s := s) (args := _) (own := RJ10) (index := 16) (y := yJ9_init_2) (bytes := cJ9_init_2) (maxL := 5) (rm := { frames := 2, cells := 0, slots := 0, locals := 36 }) (mc := 0) (ms := 0) 4 hts (lw_meth q1012) rfl rfl rfl (hts _ q132) (hts _ q1010) (hts _ q1011) rfl ⟨by decide, by decide, rfl⟩ ⟨Nat.le_of_ble_eq_true rfl, Nat.le_of_ble_eq_true rfl⟩
  refine va_callv (A0 := exA o) (va_runI (As := [.null, .null, .int 0, .int 0]) (rest := []) ⟨B.exec, B.bytes, hml, hown, hts⟩ (ex_exception (l := l) hc o fs hf) cw (ex_preS (As := [.ref o, .null, .null, .int 0, .int 0]) hK hP hz hS rfl) rfl rfl hl.1 rfl (lv_room (Nat.le_of_ble_eq_true rfl)) dJ10_init_2_6 ⟨Nat.zero_le _, Nat.zero_le _⟩) hS (fun q _ h => h) (fun q h => h) (fun fs' t H1 locs1 ht hvm hp hB hz1 hk1 hS1 => ?_)
  exact W.vret B.exec B.bytes B.returns (fun t' ht' _ => ⟨⟨fs', rfl, hp, by show va_P D cl [(o, .inr (13, fs'))] t'.heap; rw [ht', ← ht]; exact hB⟩, hS1.F ht'⟩) hS1.2.2 dJ10_init_2_9 B.notSynchronized
set_option maxRecDepth 100000 in
theorem ex_noStream (hc : cl[13]? = some (RX15, TX15, 6)) (o : Nat) (fs : List Value) (hf : fs.length = 6) : exMet l D cl yX15_init cX15_init 1 4 84 o fs [.ref o] := by
  refine Met.ofW (cc := cX15_init) (maxL := 1) (ret := none) (by decide) rfl ?_
  intro p e s m args below meth c s₁ B hml hv
  obtain ⟨rfl, hP, hK, hz⟩ := hv
  have hts := atoms_spec (ws := ws_ yX15_init cX15_init 1 none) B.pre
  have hts : ∀ w ∈ lw_all, w.before _ s = true := fun w h => hts w (List.mem_cons_of_mem _ h)
  have hown : s.vm.findClass RX15 = some m.cls := findClass_of_methodNamed B.named
  have hS : va_S (exA o) s.heap s.heap [] := va_S.rf
  have hl := lv_entry ([.ref o]) (n := 1) (Nat.le_of_ble_eq_true rfl)
  rw [lg_entry_eq]
  generalize (lg_sl ([.ref o]) ++ List.replicate (1 - (lg_sl ([.ref o])).length) Slot.unset).toArray = ls at hl ⊢
  have hl : lv_has ls 1 [(0, .ref o)] := hl
  refine lv_aload_n B.exec B.bytes dX15_init_0 rfl (lv_at hl 0 rfl) ?_
  refine lv_null B.exec B.bytes dX15_init_1 ?_
  refine lv_null B.exec B.bytes dX15_init_2 ?_
  refine lv_iconst (v := 0) B.exec B.bytes dX15_init_3 (by decide) ?_
  refine lv_iconst (v := 0) B.exec B.bytes dX15_init_4 (by decide) ?_
  have cw := cwI (R := (headSpec (ws_ yX15_init cX15_init 1 none) { frames := 4, cells := 0, slots := 0, locals := 84 }).room) (s := s) (args := _) (own := RX15) (index := 1) (y := yJ10_init_2) (bytes := cJ10_init_2) (maxL := 5) (rm := { frames := 3, cells := 0, slots := 0, locals := 60 }) (mc := 0) (ms := 0) 4 hts (lw_meth q1009) rfl rfl rfl (hts _ q133) (hts _ q1007) (hts _ q1008) rfl ⟨by decide, by decide, rfl⟩ ⟨Nat.le_of_ble_eq_true rfl, Nat.le_of_ble_eq_true rfl⟩
  refine va_callv (A0 := exA o) (va_runI (As := [.null, .null, .int 0, .int 0]) (rest := []) ⟨B.exec, B.bytes, hml, hown, hts⟩ (ex_runtime (l := l) hc o fs hf) cw (ex_preS (As := [.ref o, .null, .null, .int 0, .int 0]) hK hP hz hS rfl) rfl rfl hl.1 rfl (lv_room (Nat.le_of_ble_eq_true rfl)) dX15_init_5 ⟨Nat.zero_le _, Nat.zero_le _⟩) hS (fun q _ h => h) (fun q h => h) (fun fs' t H1 locs1 ht hvm hp hB hz1 hk1 hS1 => ?_)
  exact W.vret B.exec B.bytes B.returns (fun t' ht' _ => ⟨⟨fs', rfl, hp, by show va_P D cl [(o, .inr (13, fs'))] t'.heap; rw [ht', ← ht]; exact hB⟩, hS1.F ht'⟩) hS1.2.2 dX15_init_8 B.notSynchronized
end EX
def zXE : String := "MatrixPress$NoStream"
/-- the machine throws q, no stream, out of this frame -/
def ZThrow (Γ : ZG) (k n : Nat) (σ : ZS) (xs : va_W) (pc : Nat) (lv : List (Nat × Value)) (st : List Value) (q : Nat) : Prop :=
  ∀ (H : Heap) (locs : List Loc) (ls : Array Slot) (ce : Cell), va_P (zt_D (zg_T Γ)) (zt_cl (zg_T Γ)) (zt_W (zg_T Γ) σ xs) H → va_D (zg_A Γ) (zt_W (zg_T Γ) σ xs) → va_S (zg_A Γ) (zg_s Γ).heap H locs → lv_has ls (zg_n Γ) lv → H[q]? = some ce → ce.vm = .none → (zg_s Γ).vm.findClass zXE = some ce.cls →
    vx_W (zg_p Γ) (zg_l Γ) (zg_e Γ) (zg_R Γ) (zg_s Γ) (zg_m Γ) (zg_a Γ) (zg_b Γ) (zg_me Γ) (zg_c Γ) H locs k n (zg_Q Γ) (F0 (zg_m Γ) pc ls st) q
/-- the contract of a method that throws no stream -/
def ZMetX (l : Launch) (Θ : ZTh) (y : MethodName) (code : ByteArray) (nL : Nat) (ret : Option FieldType) (fr lo : Nat) (av : List Value) (σ : ZS) (px : ZS → Prop) : Prop :=
  ∀ sz : Nat, vx_Met l y (ws_ y code nL ret) { frames := fr, cells := 1, slots := 6, locals := lo } (zPre Θ sz σ av) (va_Qv (fun (_ : Unit) => False) (fun _ _ => True) (zt_own Θ sz)) (vx_X px (fun (E : String) (σ' : ZS) (t : State) => E = zXE ∧ zB Θ σ' t) (zt_own Θ sz)) 1 6 (zt_own Θ sz)
/-- a walk whose throws leave the method, with px -/
def ZOut (Γ : ZG) (px : ZS → Prop) : Prop := ∀ (k n pc : Nat) (σ : ZS) (xs : va_W) (lv : List (Nat × Value)) (st : List Value) (q : Nat), k ≤ 1 → n ≤ 6 → px σ → ZThrow Γ k n σ xs pc lv st q
theorem ZMetX.of {l : Launch} {Θ : ZTh} {y : MethodName} {code : ByteArray} {nL : Nat} {ret : Option FieldType} {fr lo : Nat} {av : List Value} {σ : ZS} {px : ZS → Prop} (hy : plainName y.cls = true) (hlen : (lg_sl av).length ≤ nL)
    (walk : ∀ (Γ : ZG), ZX Γ code y.cls fr lo → ZCap Γ l Θ nL 1 6 → ZOut Γ px → Z Γ 0 0 σ [] 0 (lv_args 0 av) []) : ZMetX l Θ y code nL ret fr lo av σ px := by
  intro sz
  refine vx_ofW (cc := code) (maxL := nL) (ret := ret) hy rfl ?_
  intro p e s m args below meth c s₁ B hml hex hv
  obtain ⟨rfl, hsz, hP, hK, hD0, hNw, hSt⟩ := hv
  subst hsz
  have hts := atoms_spec (ws := ws_ y code nL ret) B.pre
  have hts : ∀ w ∈ lw_all, w.before _ s = true := fun w h => hts w (List.mem_cons_of_mem _ h)
  have hown : s.vm.findClass y.cls = some m.cls := findClass_of_methodNamed B.named
  have hD : va_D (zt_own Θ s.heap.size) (zt_W Θ σ []) := hD0.weaken (fun j q hj _ => Or.inl ⟨j, (zt_nil hj).1, (zt_nil hj).2⟩)
  have hl := lv_entry av (n := nL) hlen
  rw [lg_entry_eq]
  generalize (lg_sl av ++ List.replicate (nL - (lg_sl av).length) Slot.unset).toArray = ls at hl ⊢
  have hlk := B.notSynchronized
  have hbx := B.exec
  have hbb := B.bytes
  let Γ : ZG := zMk p l e { frames := fr, cells := 1, slots := 6, locals := lo } s m av.toArray below meth c (vx_MQ below (va_Qv (fun (_ : Unit) => False) (fun _ _ => True) (zt_own Θ s.heap.size)) (vx_X px (fun (E : String) (σ' : ZS) (t : State) => E = zXE ∧ zB Θ σ' t) (zt_own Θ s.heap.size)) av.toArray s 1 6 (zt_own Θ s.heap.size)) (zt_own Θ s.heap.size) Θ nL
  have X : ZX Γ code y.cls fr lo := ⟨hbx, hbb, hml, hown, hts, hlk, hK, fun q h => Or.inr h, rfl, rfl, hNw, hSt⟩
  refine walk Γ X ⟨rfl, rfl, rfl, rfl, rfl⟩ (fun k n pc σ' xs lv st q hk hn hp => ?_) s.heap [] ls hP hD va_S.rf hl
  intro H locs ls' ce hP' hD' hS' hv' hce hcv hcl
  exact vx_out (fun x hx => (hex x hx).elim) hlk hce hcv hcl (fun t ht hvm => ⟨σ', hp, ⟨rfl, by unfold zB; rw [ht]; exact zt_P_nil hP'⟩, hS'.F ht⟩) hS'.2.2 hk hn
section ZX3
variable {Γ : ZG} {cc : ByteArray} {own : String} {fr lo : Nat} {k n : Nat} {σ : ZS} {xs : va_W} {pc : Nat} {lv : List (Nat × Value)} {st : List Value} {l : Launch} {D : va_G} {ds : Nat → ClassId} {ad : Nat → Nat} {nL mc0 ms0 : Nat}
/-- new, dup, <init>, athrow -/
theorem z_throwNS {i0 i2 : Nat} (hl0 : Cond.classLink own i0 "MatrixPress$NoStream" ∈ lw_all) (hl2 : Cond.methodLink own i2 yX15_init ∈ lw_all) (X : ZX Γ cc own fr lo) (K : ZCap Γ l (ΘC D ds ad) nL mc0 ms0) (hrm : zroom 5 104 fr lo = true) (d0 : decode cc pc = .ok (.new i0, 3)) (d1 : decode cc (pc + 3) = .ok (.dup, 1)) (d2 : decode cc (pc + 4) = .ok (.invokespecial i2, 3)) (d3 : decode cc (pc + 7) = .ok (.athrow, 1)) (hst : (st.map fun v => v.category).sum ≤ 7) (hcs : k + 1 ≤ mc0 ∧ n + 6 ≤ ms0) (h : ∀ q : Nat, ZThrow Γ (k + 1) (n + 6) σ xs (pc + 7) lv st q) : Z Γ k n σ xs pc lv st := by
  obtain ⟨rfl, hT, hn, hc1, hc2⟩ := K
  intro H locs ls hP hD hS hv
  have hK := X.hK
  have hr := hrm
  unfold zroom at hr
  rw [Bool.and_eq_true] at hr
  have hc13 : (zt_cl (zg_T Γ))[13]? = some (RX15, TX15, 6) := by rw [hT]; rfl
  refine va_new (ci := 13) (fs := [.null, .null, .null, .null, .null, .int 0]) (C := RX15) (T := TX15) (N := 6) X.hx X.hb X.hts in_X15 tyX15 tyX15_ok X.hown (X.hts _ hl0) (X.hts _ q996) (X.hts _ q136) hK hP hD hS X.hA hc13 (fun j hj => by rcases (show j = 0 ∨ j = 1 ∨ j = 2 ∨ j = 3 ∨ j = 4 ∨ j = 5 by omega) with rfl | rfl | rfl | rfl | rfl | rfl <;> rfl) (by rw [hc1]; exact hcs.1) (by rw [hc2]; exact hcs.2) d0 (fun qm H1 hP1 hD1 hS1 => ?_)
  refine lv_dup X.hx X.hb d1 rfl ?_
  have hlen : (zt_W (zg_T Γ) σ xs ++ [(qm, Sum.inr (13, [Value.null, .null, .null, .null, .null, .int 0]))])[(zt_W (zg_T Γ) σ xs).length]? = some (qm, Sum.inr (13, [Value.null, .null, .null, .null, .null, .int 0])) := by
    rw [List.getElem?_append_right (Nat.le_refl _), Nat.sub_self]
    rfl
  have hpre : ∀ (i : Nat) (q : Nat × va_E), (zt_W (zg_T Γ) σ xs)[i]? = some q → (zt_W (zg_T Γ) σ xs ++ [(qm, Sum.inr (13, [Value.null, .null, .null, .null, .null, .int 0]))])[i]? = some q := by
    intro i q hi
    rw [List.getElem?_append_left (List.getElem?_eq_some_iff.mp hi).1]
    exact hi
  have hPq : va_P (zt_D (zg_T Γ)) (zt_cl (zg_T Γ)) [(qm, Sum.inr (13, [Value.null, .null, .null, .null, .null, .int 0]))] H1 := by
    intro i q hi
    cases i with
    | zero => cases hi; exact hP1 _ _ hlen
    | succ i => cases hi
  have hAq : zg_A Γ qm := hD1.2 _ _ hlen
  have hKn : va_K (zt_D (zg_T Γ)) (zt_cl (zg_T Γ)) [] (zg_s Γ) := hK.sub [] rfl
  have cw := cwI (R := zg_R Γ) (s := zg_s Γ) (args := zg_a Γ) (own := own) (index := i2) (y := yX15_init) (bytes := cX15_init) (maxL := 1) (rm := { frames := 4, cells := 0, slots := 0, locals := 84 }) (mc := 0) (ms := 0) 0 X.hts (lw_meth q1006) rfl rfl rfl (X.hts _ q136) (X.hts _ hl2) (X.hts _ q1005) rfl ⟨by decide, by decide, rfl⟩ ⟨by rw [X.hfr]; exact Nat.le_of_ble_eq_true hr.1, by rw [X.hlo]; exact Nat.le_of_ble_eq_true hr.2⟩
  refine va_callv (A0 := zg_A Γ) (va_runI (As := []) (rest := .ref qm :: st) (zx_fix X) (ex_noStream (l := zg_l Γ) hc13 qm _ rfl) cw (ex_preS (As := [.ref qm]) hKn hPq X.hSt hS1 hAq) rfl rfl hv.1 rfl (lv_room (by simp only [List.map_cons, List.sum_cons]; exact Nat.le_trans (Nat.add_le_add_left hst 1) (by decide))) d2 ⟨by rw [hc1]; exact hcs.1, by rw [hc2]; exact hcs.2⟩) hS1 (fun q _ hq => by rw [show q = qm from hq]; exact hAq) (fun q hq => by rw [show q = qm from hq]; exact hAq) (fun fs' t H2 locs2 ht hvm hp hB hz2 hk2 hS2 => ?_)
  refine vx_athrow X.hx X.hb d3 ?_
  have hP2 : va_P (zt_D (zg_T Γ)) (zt_cl (zg_T Γ)) (zt_W (zg_T Γ) σ xs) H2 := by
    intro i q hi
    refine (hP1 i q (hpre i q hi)).kept (hk2 q.1 (hP1 i q (hpre i q hi)).lt (fun z => ?_))
    have := hD1.1 i _ q _ (hpre i q hi) hlen z
    have := (List.getElem?_eq_some_iff.mp hi).1
    omega
  have hD2 : va_D (zg_A Γ) (zt_W (zg_T Γ) σ xs) := ⟨fun i j p q hi hj => hD1.1 i j p q (hpre i p hi) (hpre j q hj), fun i q hi => hD1.2 i q (hpre i q hi)⟩
  obtain ⟨r, h1, cell, e1, e2, e3, -⟩ := hB 0 _ rfl
  cases h1.symm.trans hc13
  have hcl : (zg_s Γ).vm.findClass zXE = some cell.cls := by rw [e2]; exact (hK.1 13 _ hc13).2.1
  rw [ht] at e1
  exact h qm H2 locs2 ls cell hP2 hD2 hS2 hv e1 e3 hcl
theorem z_xback {H H1 : Heap} {locs1 : List Loc} {σ' : ZS} {t : State} (hP : va_P (zt_D (zg_T Γ)) (zt_cl (zg_T Γ)) (zt_W (zg_T Γ) σ xs) H) (hD : va_D (zg_A Γ) (zt_W (zg_T Γ) σ xs)) (hk : ∀ q : Nat, q < H.size → ¬ zt_own (zg_T Γ) H.size q → H1[q]? = H[q]?) (ht : t.heap = H1) (hB : zB (zg_T Γ) σ' t) : va_P (zt_D (zg_T Γ)) (zt_cl (zg_T Γ)) (zt_W (zg_T Γ) σ' xs) H1 ∧ va_D (zg_A Γ) (zt_W (zg_T Γ) σ' xs) := z_back hP hD hk ht hB
theorem z_callVX' {C : String} {q0 ci index : Nat} {qc : vw_C} {ks : List Nat} {y : MethodName} {code : ByteArray} {nL1 f1 l1 : Nat} {ret : Option FieldType} {As : List Value} {px : ZS → Prop} {Θ : ZTh} (X : ZX Γ cc own fr lo) (K : ZCap Γ l Θ nL mc0 ms0) (hM : ZMetX l Θ y code nL1 ret f1 l1 (.ref (zt_ad Θ q0) :: As) σ px) (hq : q0 < zt_N Θ) (hL : zt_L Θ q0 = .inl (ci, ks)) (hc : (zt_cl Θ)[ci]? = some qc) (hC : qc.1 = C)
    (hw : GoodIn lw_all (wsV own index C y (ws_ y code nL1 ret))) (hd : y.cls = C ∧ y.cls ≠ "java/lang/invoke/MethodHandle" ∧ y.cls ≠ "java/lang/invoke/VarHandle" ∧ (parseMethodDescriptor y.desc).map (fun d => d.parameters.length) = some As.length) (hR : f1 + 1 ≤ fr ∧ 8 + (nL1 + 11) + l1 ≤ lo) (hcs : k + 1 ≤ (zg_R Γ).cells ∧ n + 6 ≤ (zg_R Γ).slots) (hst : (st.map fun v => v.category).sum ≤ 8) (d : decode cc pc = .ok (.invokevirtual index, 3)) {full : List Value} (hfull : full = As.reverse ++ .ref (zt_ad Θ q0) :: st)
    (h : ∀ (σ' : ZS) (q : Nat), px σ' → ZThrow Γ (k + 1) (n + 6) σ' xs pc lv st q) : Z Γ k n σ xs pc lv full := by
  obtain ⟨rfl, rfl, -⟩ := K
  subst hfull
  intro H locs ls hP hD hS hv
  have cw : CallW (zg_R Γ) (zg_s Γ) (zg_a Γ) own C index y code nL1 ret (ws_ y code nL1 ret) { frames := f1, cells := 1, slots := 6, locals := l1 } 1 6 As.length := cwV As.length X.hts hw rfl rfl rfl hd (by rw [X.hfr, X.hlo]; exact hR)
  refine vx_callv (vx_runV (zx_fix X) (hM H.size) cw (z_preV X hP hD hS hq hL hc hC) rfl rfl hv.1 rfl (lv_room hst) d hcs) hS (fun q _ hq => zt_own_in hD hS X.hA q hq) (fun q hq => zt_own_in hD hS X.hA q hq) (fun q _ hq => zt_own_in hD hS X.hA q hq) (fun E ce q9 σ' t H1 locs1 ht hvm hp hB hz hkk hS1 hce hcv hcl => ?_) (fun u t H1 locs1 ht hvm hp => hp.elim)
  obtain ⟨rfl, hB⟩ := hB
  obtain ⟨hP1, hD1⟩ := z_back hP hD hkk ht hB
  exact h σ' q9 hp H1 locs1 ls ce hP1 hD1 hS1 hv hce hcv hcl
theorem z_callUX' {C owner : String} {q0 ci index : Nat} {qc : vw_C} {ks : List Nat} {x y : MethodName} {code : ByteArray} {nL1 f1 l1 : Nat} {ret : Option FieldType} {As : List Value} {px : ZS → Prop} {Θ : ZTh} (X : ZX Γ cc own fr lo) (K : ZCap Γ l Θ nL mc0 ms0) (hM : ZMetX l Θ y code nL1 ret f1 l1 (.ref (zt_ad Θ q0) :: As) σ px) (hq : q0 < zt_N Θ) (hL : zt_L Θ q0 = .inl (ci, ks)) (hc : (zt_cl Θ)[ci]? = some qc) (hC : qc.1 = C)
    (hw : GoodIn lw_all (va_wsU own index C owner x y (ws_ y code nL1 ret))) (hz : va_Decl (zg_s Γ) ⟨owner, x.name, x.desc⟩) (hd : owner ≠ "java/lang/invoke/MethodHandle" ∧ owner ≠ "java/lang/invoke/VarHandle" ∧ (parseMethodDescriptor x.desc).map (fun d => d.parameters.length) = some As.length) (hR : f1 + 1 ≤ fr ∧ 8 + (nL1 + 11) + l1 ≤ lo) (hcs : k + 1 ≤ (zg_R Γ).cells ∧ n + 6 ≤ (zg_R Γ).slots) (hst : (st.map fun v => v.category).sum ≤ 8) (d : decode cc pc = .ok (.invokevirtual index, 3)) {full : List Value} (hfull : full = As.reverse ++ .ref (zt_ad Θ q0) :: st)
    (h : ∀ (σ' : ZS) (q : Nat), px σ' → ZThrow Γ (k + 1) (n + 6) σ' xs pc lv st q) : Z Γ k n σ xs pc lv full := by
  obtain ⟨rfl, rfl, -⟩ := K
  subst hfull
  intro H locs ls hP hD hS hv
  have cw : va_CU (zg_R Γ) (zg_s Γ) (zg_a Γ) own C owner index x y code nL1 ret (ws_ y code nL1 ret) { frames := f1, cells := 1, slots := 6, locals := l1 } 1 6 As.length := z_cwD As.length X.hts hw rfl rfl rfl hz hd (by rw [X.hfr, X.hlo]; exact hR)
  refine vx_callv (vx_runU (zx_fix X) (hM H.size) cw (z_preV X hP hD hS hq hL hc hC) rfl rfl hv.1 rfl (lv_room hst) d hcs) hS (fun q _ hq => zt_own_in hD hS X.hA q hq) (fun q hq => zt_own_in hD hS X.hA q hq) (fun q _ hq => zt_own_in hD hS X.hA q hq) (fun E ce q9 σ' t H1 locs1 ht hvm hp hB hz hkk hS1 hce hcv hcl => ?_) (fun u t H1 locs1 ht hvm hp => hp.elim)
  obtain ⟨rfl, hB⟩ := hB
  obtain ⟨hP1, hD1⟩ := z_back hP hD hkk ht hB
  exact h σ' q9 hp H1 locs1 ls ce hP1 hD1 hS1 hv hce hcv hcl
theorem z_callSX' {index : Nat} {y : MethodName} {code : ByteArray} {nL1 f1 l1 : Nat} {ret : Option FieldType} {As : List Value} {px : ZS → Prop} {Θ : ZTh} (X : ZX Γ cc own fr lo) (K : ZCap Γ l Θ nL mc0 ms0) (hM : ZMetX l Θ y code nL1 ret f1 l1 As σ px)
    (hw : GoodIn lw_all (va_wsS own index y (ws_ y code nL1 ret))) (hd : y.cls ≠ "java/lang/invoke/MethodHandle" ∧ y.cls ≠ "java/lang/invoke/VarHandle" ∧ (parseMethodDescriptor y.desc).map (fun d => d.parameters.length) = some As.length) (hR : f1 + 1 ≤ fr ∧ 8 + (nL1 + 11) + l1 ≤ lo) (hcs : k + 1 ≤ (zg_R Γ).cells ∧ n + 6 ≤ (zg_R Γ).slots) (hst : (st.map fun v => v.category).sum ≤ 8) (d : decode cc pc = .ok (.invokestatic index, 3)) {full : List Value} (hfull : full = As.reverse ++ st)
    (h : ∀ (σ' : ZS) (q : Nat), px σ' → ZThrow Γ (k + 1) (n + 6) σ' xs pc lv st q) : Z Γ k n σ xs pc lv full := by
  obtain ⟨rfl, rfl, -⟩ := K
  subst hfull
  intro H locs ls hP hD hS hv
  have cw := va_cwS (R := zg_R Γ) (rm := { frames := f1, cells := 1, slots := 6, locals := l1 }) (mc := 1) (ms := 6) As.length X.hts hw rfl rfl rfl hd (by rw [X.hfr, X.hlo]; exact hR)
  refine vx_callv (vx_runS (zx_fix X) (hM H.size) cw (z_preS X hP hD hS) rfl rfl hv.1 rfl (lv_room hst) d hcs) hS (fun q _ hq => zt_own_in hD hS X.hA q hq) (fun q hq => zt_own_in hD hS X.hA q hq) (fun q _ hq => zt_own_in hD hS X.hA q hq) (fun E ce q9 σ' t H1 locs1 ht hvm hp hB hz hkk hS1 hce hcv hcl => ?_) (fun u t H1 locs1 ht hvm hp => hp.elim)
  obtain ⟨rfl, hB⟩ := hB
  obtain ⟨hP1, hD1⟩ := z_back hP hD hkk ht hB
  exact h σ' q9 hp H1 locs1 ls ce hP1 hD1 hS1 hv hce hcv hcl
end ZX3
/-! a method that answers a cell of the world -/
def ZMetR (l : Launch) (Θ : ZTh) (y : MethodName) (code : ByteArray) (nL : Nat) (ret : FieldType) (fr lo mc ms : Nat) (av : List Value) (σ : ZS) (post : Nat → ZS → Prop) : Prop :=
  ∀ sz : Nat, Met l y (ws_ y code nL (some ret)) { frames := fr, cells := mc, slots := ms, locals := lo } (zPre Θ sz σ av) (va_Qr (fun (u : Nat × ZS) => post u.1 u.2) (fun u a t => a = zt_ad Θ u.1 ∧ zB Θ u.2 t) (zt_own Θ sz)) mc ms (zt_own Θ sz)
def ZRetR (Γ : ZG) (cc : ByteArray) (mc ms : Nat) (post : Nat → ZS → Prop) : Prop := ∀ (k n pc : Nat) (σ : ZS) (xs : va_W) (lv : List (Nat × Value)) (x : Nat), decode cc pc = .ok (.areturn, 1) → k ≤ mc → n ≤ ms → post x σ → Z Γ k n σ xs pc lv [.ref (zt_ad (zg_T Γ) x)]
theorem ZMetR.of {l : Launch} {Θ : ZTh} {y : MethodName} {code : ByteArray} {nL : Nat} {cn : String} {fr lo mc ms : Nat} {av : List Value} {σ : ZS} {post : Nat → ZS → Prop} (hy : plainName y.cls = true) (hlen : (lg_sl av).length ≤ nL)
    (walk : ∀ (Γ : ZG), ZX Γ code y.cls fr lo → ZCap Γ l Θ nL mc ms → ZRetR Γ code mc ms post → Z Γ 0 0 σ [] 0 (lv_args 0 av) []) : ZMetR l Θ y code nL (.object cn) fr lo mc ms av σ post := by
  intro sz
  refine Met.ofW (cc := code) (maxL := nL) (ret := some (.object cn)) hy rfl ?_
  intro p e s m args below meth c s₁ B hml hv
  obtain ⟨rfl, hsz, hP, hK, hD0, hNw, hSt⟩ := hv
  subst hsz
  have hts := atoms_spec (ws := ws_ y code nL (some (.object cn))) B.pre
  have hts : ∀ w ∈ lw_all, w.before _ s = true := fun w h => hts w (List.mem_cons_of_mem _ h)
  have hown : s.vm.findClass y.cls = some m.cls := findClass_of_methodNamed B.named
  have hD : va_D (zt_own Θ s.heap.size) (zt_W Θ σ []) := hD0.weaken (fun j q hj _ => Or.inl ⟨j, (zt_nil hj).1, (zt_nil hj).2⟩)
  have hl := lv_entry av (n := nL) hlen
  rw [lg_entry_eq]
  generalize (lg_sl av ++ List.replicate (nL - (lg_sl av).length) Slot.unset).toArray = ls at hl ⊢
  have hr := B.returns
  have hlk := B.notSynchronized
  have hbx := B.exec
  have hbb := B.bytes
  let Γ : ZG := zMk p l e { frames := fr, cells := mc, slots := ms, locals := lo } s m av.toArray below meth c (MQ below (va_Qr (fun (u : Nat × ZS) => post u.1 u.2) (fun u a t => a = zt_ad Θ u.1 ∧ zB Θ u.2 t) (zt_own Θ s.heap.size)) av.toArray s mc ms (zt_own Θ s.heap.size)) (zt_own Θ s.heap.size) Θ nL
  have X : ZX Γ code y.cls fr lo := ⟨hbx, hbb, hml, hown, hts, hlk, hK, fun q h => Or.inr h, rfl, rfl, hNw, hSt⟩
  refine walk Γ X ⟨rfl, rfl, rfl, rfl, rfl⟩ (fun k n pc σ' xs lv x d hk hm hp => ?_) s.heap [] ls hP hD va_S.rf hl
  intro H locs ls' hP' hD' hS' hv'
  refine W.widen hk hm ?_
  exact W.aret hbx hbb hr (Or.inl ⟨_, rfl⟩) (Or.inr ⟨_, rfl⟩) (fun t ht hW => ⟨⟨(x, σ'), zt_ad Θ x, rfl, hp, rfl, by unfold zB; rw [ht]; exact zt_P_nil hP'⟩, hS'.F ht⟩) hS'.2.2 d hlk
theorem z_callSR' {Γ : ZG} {cc : ByteArray} {own : String} {fr lo : Nat} {k n : Nat} {σ : ZS} {xs : va_W} {pc : Nat} {lv : List (Nat × Value)} {st : List Value} {l : Launch} {nL mc0 ms0 : Nat} {index mc ms : Nat} {y : MethodName} {code : ByteArray} {nL1 f1 l1 : Nat} {ret : FieldType} {As : List Value} {post : Nat → ZS → Prop} {Θ : ZTh} (X : ZX Γ cc own fr lo) (K : ZCap Γ l Θ nL mc0 ms0) (hM : ZMetR l Θ y code nL1 ret f1 l1 mc ms As σ post)
    (hw : GoodIn lw_all (va_wsS own index y (ws_ y code nL1 (some ret)))) (hd : y.cls ≠ "java/lang/invoke/MethodHandle" ∧ y.cls ≠ "java/lang/invoke/VarHandle" ∧ (parseMethodDescriptor y.desc).map (fun d => d.parameters.length) = some As.length) (hR : f1 + 1 ≤ fr ∧ 8 + (nL1 + 11) + l1 ≤ lo) (hcs : k + mc ≤ (zg_R Γ).cells ∧ n + ms ≤ (zg_R Γ).slots) (hst : (st.map fun v => v.category).sum ≤ 8) (d : decode cc pc = .ok (.invokestatic index, 3)) {full : List Value} (hfull : full = As.reverse ++ st)
    (h : ∀ (r : Nat) (σ' : ZS), post r σ' → Z Γ (k + mc) (n + ms) σ' xs (pc + 3) lv (.ref (zt_ad Θ r) :: st)) : Z Γ k n σ xs pc lv full := by
  obtain ⟨rfl, rfl, -⟩ := K
  subst hfull
  intro H locs ls hP hD hS hv
  have cw := va_cwS (R := zg_R Γ) (rm := { frames := f1, cells := mc, slots := ms, locals := l1 }) (mc := mc) (ms := ms) As.length X.hts hw rfl rfl rfl hd (by rw [X.hfr, X.hlo]; exact hR)
  refine va_callr (va_runS (zx_fix X) (hM H.size) cw (z_preS X hP hD hS) rfl rfl hv.1 rfl (lv_room hst) d hcs) hS (fun q _ hq => zt_own_in hD hS X.hA q hq) (fun q hq => zt_own_in hD hS X.hA q hq) (fun u ra t H1 locs1 ht hvm hp hB hz hkk hS1 => ?_)
  obtain ⟨rfl, hB⟩ := hB
  obtain ⟨hP1, hD1⟩ := z_back hP hD hkk ht hB
  exact h u.1 u.2 hp H1 locs1 ls hP1 hD1 hS1 hv
