/-! WD: the chooser's methods that make steps -/
/-- the step that the next one joins: none if a new one is made -/
def dyRe (d : ZDy) (s : Int) : Option Nat := match d.1.2.2.getLast? with
  | none => none
  | some a => if d.2.2.2 a 0 = 0 ∧ s = 0 then some a else none
def dyRec (s k : Int) : Int → Int := fun i => if i = 0 then s else if i = 1 then k else 0
def lastR (d : ZDy) (s k : Int) (a : Nat) (d' : ZDy) : Prop := (dyRe d s = some a ∧ d' = d) ∨ (dyRe d s = none ∧ a ∉ d.2.2.1 ∧ ∃ y', yAdd d.1 a y' ∧ d' = (y', d.2.1, a :: d.2.2.1, fun b => if b = a then dyRec s k else d.2.2.2 b))
section WD
variable {l : Launch} {D : va_G} {ds : Nat → ClassId} {ad : Nat → Nat} {δ : Nat × Nat}
theorem dyW_st {cA : ClassId} {o1 o2 : Nat} {d : ZDy} {a : Nat} (h : a ∈ d.2.2.1) : ∃ i : Nat, (dyW cA δ o1 o2 d)[i]? = some (jSt a (d.2.2.2 a)) := by
  refine List.getElem?_of_mem ?_
  unfold dyW
  exact List.mem_append_right _ (List.mem_append_right _ (stW_mem h))
theorem mtd_X12_last (σ : ZS) (d : ZDy) (s k : Int) (mc ms : Nat) (hd : dyOK d) (hr : yRoom d.1) (hs : InR s) (hm : dyRe d s = none → 2 ≤ mc ∧ 4 + yGrow d.1 ≤ ms) : ZDR l (ΘC D ds ad) (ds 5) δ yX12_last cX12_last 4 (.object "MatrixPress$Step") 7 200 mc ms [.ref (ad 65), .int (iz s), .int (iz k)] σ (dyW (ds 5) δ (ad 75) (ad 76) d) (fun a σ' xs' => σ' = σ ∧ ∃ d', xs' = dyW (ds 5) δ (ad 75) (ad 76) d' ∧ lastR d s k a d') := by
  refine ZDR.of (by decide) (Nat.le_of_ble_eq_true rfl) (Or.inl ⟨_, rfl⟩) (fun Γ X K E R => ?_)
  have ht : (zt_ty (ΘC D ds ad))[5]? = some (ds 5, .object "java/lang/Object") := rfl
  have hc : (zt_cl (ΘC D ds ad))[12]? = some (RX14, TX14, 4) := rfl
  have hc6 : (zt_cl (ΘC D ds ad))[6]? = some (RJ2, TJ2, 3) := rfl
  obtain ⟨y1, y2, LP, p⟩ := d
  obtain ⟨m, e, L⟩ := y1
  obtain ⟨hy1, hy2, hL1, hL2, hp⟩ := hd
  have hlen : L.length ≤ 40000000 := by
    cases e with
    | none =>
      have h : L = [] := hy1
      rw [h]
      exact Nat.zero_le _
    | some q => exact Nat.le_trans hy1.1 hy1.2.2
  have hlz : InR (L.length : Int) := ⟨by omega, by omega⟩
  -- a new step
  have hnew : dyRe ((m, e, L), y2, LP, p) s = none → ∀ v3 : Value, Z Γ 0 0 σ (dyW (ds 5) δ (ad 75) (ad 76) ((m, e, L), y2, LP, p)) 51 [(3, v3), (0, .ref (ad 65)), (1, .int (iz s)), (2, .int (iz k))] [] := by
    intro hre v3
    obtain ⟨hm1, hm2⟩ := hm hre
    refine zx_new (fs := [.int (iz 0), .int (iz 0), .int (iz 0), .int (iz 0)]) X K in_X14 tyX14 tyX14_ok q747 q748 q130 hc (fun j hj => by rcases (show j = 0 ∨ j = 1 ∨ j = 2 ∨ j = 3 by omega) with rfl | rfl | rfl | rfl <;> rfl) ⟨by omega, by omega⟩ dX12_last_51 (fun a => z_front (zx_nd fun hnd => ?_))
    have ha : a ∉ LP := by
      intro h
      rw [List.map_cons, List.nodup_cons] at hnd
      refine hnd.1 ?_
      unfold dyW
      rw [List.map_append, List.map_append, stW_addr]
      exact List.mem_append_right _ (List.mem_append_right _ h)
    refine z_dup X dX12_last_54 rfl ?_
    refine z_iload_n X 2 dX12_last_55 rfl ?_
    refine z_iload_n X 3 dX12_last_56 rfl ?_
    refine zd_rU (σR := σ) (ys := [jSt a (fun _ => 0)]) X K E (jl_step (Θ := ΘC D ds ad) (tl := []) hc a s k) (dyW (ds 5) δ (ad 75) (ad 76) ((m, e, L), y2, LP, p)) (List.Perm.refl _) q749 q750 q130 q751 rfl ⟨by decide, by decide, rfl⟩ ⟨Nat.le_of_ble_eq_true rfl, Nat.le_of_ble_eq_true rfl⟩ ⟨by omega, by omega⟩ (Nat.le_of_ble_eq_true rfl) dX12_last_57 rfl (fun σ' ys' hys => ?_)
    subst hys
    refine z_astore_nK X K dX12_last_60 rfl rfl ?_
    refine z_aload_n X 1 dX12_last_61 rfl ?_
    refine z_get' (C := RX12) (T := TX12) (N0 := 12) (ref := RX12) (kd := 77) X K in_X12 65 (Nat.le_of_ble_eq_true rfl) rfl rfl 8 (Nat.le_of_ble_eq_true rfl) q488 (fun _ h => h) rfl dX12_last_62 ?_
    refine z_aload_n X 0 dX12_last_65 rfl ?_
    have hpm : (jSt a (dyRec s k) :: dyW (ds 5) δ (ad 75) (ad 76) ((m, e, L), y2, LP, p)).Perm (lsW (ds 5) δ (ad 75) (m, e, L) ++ ((jSt a (dyRec s k) :: stW LP p) ++ lsW (ds 5) δ (ad 76) y2)) := by
      unfold dyW
      refine List.perm_middle.symm.trans (List.Perm.append_left _ ?_)
      exact List.Perm.cons _ List.perm_append_comm
    refine z_yAdd (o := ad 75) (y := (m, e, L)) (T := jSt a (dyRec s k) :: stW LP p) (R := lsW (ds 5) δ (ad 76) y2) X K E ht hc hc6 hy1 hr ⟨_, List.mem_cons_self⟩ (fun b hb => ⟨_, List.mem_cons_of_mem _ (stW_mem (hL1 b hb))⟩) hpm q771 rfl ⟨by omega, by omega⟩ (Nat.le_of_ble_eq_true rfl) dX12_last_66 (fun y' hy' => ?_)
    refine z_pop X dX12_last_69 rfl ?_
    refine z_aload_n X 0 dX12_last_70 rfl ?_
    have hst : jSt a (dyRec s k) :: stW LP p = stW (a :: LP) (fun b => if b = a then dyRec s k else p b) := by
      have e1 : (if a = a then dyRec s k else p a) = dyRec s k := if_pos rfl
      have e2 : LP.map (fun b => jSt b (p b)) = LP.map (fun b => jSt b (if b = a then dyRec s k else p b)) := by
        refine List.map_congr_left (fun b hb => ?_)
        have hba : ¬ b = a := fun h => ha (h ▸ hb)
        rw [if_neg hba]
      show _ = jSt a (if a = a then dyRec s k else p a) :: LP.map (fun b => jSt b (if b = a then dyRec s k else p b))
      rw [e1, ← e2]
      rfl
    rw [hst]
    refine z_perm (ys := dyW (ds 5) δ (ad 75) (ad 76) (y', y2, a :: LP, fun b => if b = a then dyRec s k else p b)) [] (by rw [List.append_nil]; exact List.Perm.append_left _ List.perm_append_comm) ?_
    exact R _ _ _ _ _ _ _ dX12_last_71 (by omega) (by omega) ⟨rfl, _, rfl, Or.inr ⟨hre, ha, y', hy', rfl⟩⟩
  refine z_aload_n X 0 dX12_last_0 rfl ?_
  refine z_get' (C := RX12) (T := TX12) (N0 := 12) (ref := RX12) (kd := 77) X K in_X12 65 (Nat.le_of_ble_eq_true rfl) rfl rfl 8 (Nat.le_of_ble_eq_true rfl) q488 (fun _ h => h) rfl dX12_last_1 ?_
  refine zd_rVI (C := RJ2) (σR := σ) X K E (jl_isEmpty (Θ := ΘC D ds ad) (tl := lsX (ds 5) e L ++ (lsW (ds 5) δ (ad 76) y2 ++ stW LP p)) hc6 (ad 75) (lsA δ e) m (L.length : Int) hlz) [] (by rw [List.append_nil]; exact List.Perm.refl _) (i0 := 0) rfl hc6 rfl (lw_V q743 q744 q745 q114 q746) ⟨rfl, by decide, by decide, rfl⟩ ⟨Nat.le_of_ble_eq_true rfl, Nat.le_of_ble_eq_true rfl⟩ ⟨Nat.zero_le _, Nat.zero_le _⟩ (Nat.le_of_ble_eq_true rfl) dX12_last_4 rfl (fun x σ' ys' hh => z_app0 ?_)
  obtain ⟨rfl, rfl⟩ := hh
  show Z Γ 0 0 σ (dyW (ds 5) δ (ad 75) (ad 76) ((m, e, L), y2, LP, p)) _ _ _
  have hx : InR (if (L.length : Int) = 0 then 1 else 0) := by split <;> exact ⟨by decide, by decide⟩
  refine z_if_eq X 14 dX12_last_7 (by decide) hx (fun q => ?_) (fun q => ?_)
  · -- there is a last one
    have hne : L ≠ [] := by
      rintro rfl
      exact absurd q (by decide)
    have hl0 : 0 < L.length := List.length_pos_iff.mpr hne
    cases e with
    | none => exact absurd hy1 hne
    | some q1 =>
      obtain ⟨el, cap⟩ := q1
      obtain ⟨h1, h2, h3⟩ : L.length ≤ cap ∧ 10 ≤ cap ∧ cap ≤ 40000000 := hy1
      refine z_aload_n X 0 dX12_last_14 rfl ?_
      refine z_get' (C := RX12) (T := TX12) (N0 := 12) (ref := RX12) (kd := 77) X K in_X12 65 (Nat.le_of_ble_eq_true rfl) rfl rfl 8 (Nat.le_of_ble_eq_true rfl) q488 (fun _ h => h) rfl dX12_last_15 ?_
      refine z_aload_n X 0 dX12_last_18 rfl ?_
      refine z_get' (C := RX12) (T := TX12) (N0 := 12) (ref := RX12) (kd := 77) X K in_X12 65 (Nat.le_of_ble_eq_true rfl) rfl rfl 8 (Nat.le_of_ble_eq_true rfl) q488 (fun _ h => h) rfl dX12_last_19 ?_
      have hsub : ∀ q ∈ [jLs (ad 75) m el (L.length : Int), jAr (ds 5) el cap (fun j => L[j]?)], q ∈ dyW (ds 5) δ (ad 75) (ad 76) ((m, some (el, cap), L), y2, LP, p) := by
        intro q hq
        unfold dyW
        refine List.mem_append_left _ ?_
        exact hq
      refine zx_ro (C := RJ2) (i0 := 0) X K (al_size (D := D) rfl (ad 75) [jLs (ad 75) m el (L.length : Int), jAr (ds 5) el cap (fun j => L[j]?)] (iz m) (iz (L.length : Int)) (.ref el) rfl) hsub rfl hc6 rfl (lw_V q591 q592 q593 q114 q594) ⟨rfl, by decide, by decide, rfl⟩ ⟨Nat.le_of_ble_eq_true rfl, Nat.le_of_ble_eq_true rfl⟩ ⟨Nat.zero_le _, Nat.zero_le _⟩ (Nat.le_of_ble_eq_true rfl) dX12_last_22 rfl ?_
      refine z_iconst X 1 dX12_last_25 ?_
      refine z_isub X dX12_last_26 ?_
      have hz1 : InR ((L.length : Int) - 1) := ⟨by omega, by omega⟩
      have hg := al_get (l := l) (D := D) (cl := zt_cl (ΘC D ds ad)) (tys := zt_ty (ΘC D ds ad)) rfl (ad 75) el (iz m) (iz (L.length : Int)) (ds 5) cap 5 (fun j => L[j]?) [jLs (ad 75) m el (L.length : Int), jAr (ds 5) el cap (fun j => L[j]?)] (iz ((L.length : Int) - 1)) rfl rfl rfl (iz_vp_in (by omega) (by omega) (by omega)) (fun q => absurd ((iz_lt0 hz1).mp q) (by omega)) ((iz_lt hz1 hlz).mpr (by omega))
      rw [iz_clamp (n := cap) (by omega) (by omega) (by omega)] at hg
      have e1 : ((L.length : Int) - 1).toNat = L.length - 1 := by omega
      rw [e1] at hg
      obtain ⟨a, hla⟩ : ∃ a, L.getLast? = some a := by
        cases hq : L.getLast? with
        | none => exact absurd (List.getLast?_eq_none_iff.mp hq) hne
        | some a => exact ⟨a, rfl⟩
      have hla2 : L[L.length - 1]? = some a := by rw [← List.getLast?_eq_getElem?]; exact hla
      rw [hla2] at hg
      refine zx_ro (C := RJ2) (i0 := 0) X K hg hsub rfl hc6 rfl (lw_V q595 q596 q597 q114 q598) ⟨rfl, by decide, by decide, rfl⟩ ⟨Nat.le_of_ble_eq_true rfl, Nat.le_of_ble_eq_true rfl⟩ ⟨Nat.zero_le _, Nat.zero_le _⟩ (Nat.le_of_ble_eq_true rfl) dX12_last_27 rfl ?_
      have ha : a ∈ LP := hL1 a (List.mem_of_getLast? hla)
      obtain ⟨i, hi⟩ := dyW_st (cA := ds 5) (δ := δ) (o1 := ad 75) (o2 := ad 76) (d := ((m, some (el, cap), L), y2, LP, p)) ha
      refine zx_castS (a := a) X K q747 hi hc dX12_last_30 ?_
      refine z_astore_nK X K dX12_last_33 rfl rfl ?_
      refine z_aload_n X 0 dX12_last_34 rfl ?_
      refine z_ifnullR X dX12_last_35 ?_
      refine z_aload_n X 0 dX12_last_38 rfl ?_
      refine zx_getN (C := RX14) (T := TX14) (N0 := 4) (ref := RX14) (host := "MatrixPress") X K in_X14 i hi hc 0 (by decide) q755 (fun _ h => h) rfl dX12_last_39 ?_
      refine z_if_ne X 51 dX12_last_42 (by decide) (hp a 0) (fun q => ?_) (fun q => ?_)
      · refine hnew ?_ _
        unfold dyRe
        show (match L.getLast? with | none => none | some a => if p a 0 = 0 ∧ s = 0 then some a else none) = none
        rw [hla]
        exact if_neg (fun h => q h.1)
      · refine z_iload_n X 2 dX12_last_45 rfl ?_
        refine z_if_ne X 51 dX12_last_46 (by decide) hs (fun q2 => ?_) (fun q2 => ?_)
        · refine hnew ?_ _
          unfold dyRe
          show (match L.getLast? with | none => none | some a => if p a 0 = 0 ∧ s = 0 then some a else none) = none
          rw [hla]
          exact if_neg (fun h => q2 h.2)
        · refine z_aload_n X 0 dX12_last_49 rfl ?_
          refine R _ _ _ _ _ _ _ dX12_last_50 (Nat.zero_le _) (Nat.zero_le _) ⟨rfl, _, rfl, Or.inl ⟨?_, rfl⟩⟩
          unfold dyRe
          show (match L.getLast? with | none => none | some a => if p a 0 = 0 ∧ s = 0 then some a else none) = some a
          rw [hla]
          exact if_pos ⟨q, q2⟩
  · -- none yet
    have hL0 : L = [] := by
      by_cases h : L = []
      · exact h
      · have := List.length_pos_iff.mpr h
        rw [if_neg (by omega)] at q
        exact absurd rfl q
    refine z_null X dX12_last_10 ?_
    refine z_goto X (tgt := 33) dX12_last_11 (by decide) ?_
    refine z_astore_n0 (ad := ad) (x := -1) X K dX12_last_33 (by decide) rfl rfl ?_
    refine z_aload_nQ (ad := ad) (x := -1) X 0 dX12_last_34 rfl ?_
    refine z_ifnullQ X 51 dX12_last_35 (by decide) (fun _ => ?_) (fun h => absurd h (by decide))
    refine hnew ?_ _
    unfold dyRe
    show (match L.getLast? with | none => none | some a => if p a 0 = 0 ∧ s = 0 then some a else none) = none
    rw [hL0]
    rfl
end WD
