/-! DY: the two lists of steps beside the component's world -/
/-- a list: its modCount, its array (none: the default one; else its address and room), its elements' addresses -/
abbrev ZY : Type := Int × Option (Nat × Nat) × List Nat
/-- the chooser's list, the press's list, the steps' addresses, the steps' fields -/
abbrev ZDy : Type := ZY × ZY × List Nat × (Nat → Int → Int)
def lsA (δ : Nat × Nat) (e : Option (Nat × Nat)) : Nat := match e with
  | none => δ.1
  | some q => q.1
def lsX (cA : ClassId) (e : Option (Nat × Nat)) (L : List Nat) : va_W := match e with
  | none => []
  | some q => [jAr cA q.1 q.2 (fun j => L[j]?)]
def lsW (cA : ClassId) (δ : Nat × Nat) (o : Nat) (y : ZY) : va_W := jLs o y.1 (lsA δ y.2.1) (y.2.2.length : Int) :: lsX cA y.2.1 y.2.2
def stW (LP : List Nat) (p : Nat → Int → Int) : va_W := LP.map fun a => jSt a (p a)
def dyW (cA : ClassId) (δ : Nat × Nat) (o1 o2 : Nat) (d : ZDy) : va_W := lsW cA δ o1 d.1 ++ (lsW cA δ o2 d.2.1 ++ stW d.2.2.1 d.2.2.2)
def yOK (y : ZY) : Prop := match y.2.1 with
  | none => y.2.2 = []
  | some q => y.2.2.length ≤ q.2 ∧ 10 ≤ q.2 ∧ q.2 ≤ 40000000
def yRoom (y : ZY) : Prop := match y.2.1 with
  | none => True
  | some q => q.2 ≤ 20000000
def dyOK (d : ZDy) : Prop := yOK d.1 ∧ yOK d.2.1 ∧ (∀ a ∈ d.1.2.2, a ∈ d.2.2.1) ∧ (∀ a ∈ d.2.1.2.2, a ∈ d.2.2.1) ∧ ∀ a i, InR (d.2.2.2 a i)
/-- the room after one more element; what it costs -/
def yCap (y : ZY) : Nat := match y.2.1 with
  | none => 10
  | some q => if y.2.2.length < q.2 then q.2 else q.2 + q.2 / 2
def yGrow (y : ZY) : Nat := match y.2.1 with
  | none => 10
  | some q => if y.2.2.length < q.2 then 0 else q.2 + q.2 / 2
def yAdd (y : ZY) (a : Nat) (y' : ZY) : Prop := ∃ e : Nat, y' = (y.1 + 1, some (e, yCap y), y.2.2 ++ [a])
theorem yAdd.ok {y y' : ZY} {a : Nat} (h : yAdd y a y') (hy : yOK y) (hr : yRoom y) : yOK y' := by
  obtain ⟨e, rfl⟩ := h
  obtain ⟨m, o, L⟩ := y
  cases o with
  | none =>
    have hL : L = [] := hy
    subst hL
    exact ⟨Nat.le_of_ble_eq_true rfl, Nat.le_of_ble_eq_true rfl, Nat.le_of_ble_eq_true rfl⟩
  | some q =>
    obtain ⟨q1, q2⟩ := q
    obtain ⟨h1, h2, h3⟩ : L.length ≤ q2 ∧ 10 ≤ q2 ∧ q2 ≤ 40000000 := hy
    have hr : q2 ≤ 20000000 := hr
    show (L ++ [a]).length ≤ (if L.length < q2 then q2 else q2 + q2 / 2) ∧ 10 ≤ (if L.length < q2 then q2 else q2 + q2 / 2) ∧ (if L.length < q2 then q2 else q2 + q2 / 2) ≤ 40000000
    rw [List.length_append]
    show L.length + 1 ≤ (if L.length < q2 then q2 else q2 + q2 / 2) ∧ 10 ≤ (if L.length < q2 then q2 else q2 + q2 / 2) ∧ (if L.length < q2 then q2 else q2 + q2 / 2) ≤ 40000000
    split <;> omega
theorem va_up_app {L : List Nat} {v : Nat} : va_up (fun j => L[j]?) L.length (some v) = fun j => (L ++ [v])[j]? := by
  funext j
  unfold va_up
  by_cases h : j = L.length
  · subst h
    simp
  · rw [if_neg h]
    rcases Nat.lt_or_ge j L.length with h2 | h2
    · rw [List.getElem?_append_left h2]
    · show L[j]? = (L ++ [v])[j]?
      rw [List.getElem?_eq_none h2, List.getElem?_eq_none (by rw [List.length_append]; show L.length + 1 ≤ j; omega)]
theorem va_cpy_all {L : List Nat} {n : Nat} (h : L.length = n) : va_cpy (fun j => L[j]?) (fun _ => none) 0 0 n = fun j => L[j]? := by
  funext j
  unfold va_cpy
  by_cases h2 : j < n
  · rw [if_pos ⟨Nat.zero_le _, by omega⟩, Nat.zero_add, Nat.sub_zero]
  · rw [if_neg (by omega), List.getElem?_eq_none (by omega)]
theorem stW_mem {LP : List Nat} {p : Nat → Int → Int} {a : Nat} (h : a ∈ LP) : jSt a (p a) ∈ stW LP p := List.mem_map.mpr ⟨a, h, rfl⟩
theorem stW_addr {LP : List Nat} {p : Nat → Int → Int} : (stW LP p).map (fun q => q.1) = LP := by
  unfold stW
  rw [List.map_map]
  exact List.map_id' LP
section ZDY
variable {Γ : ZG} {cc : ByteArray} {own : String} {fr lo : Nat} {k n : Nat} {σ : ZS} {xs : va_W} {pc : Nat} {lv : List (Nat × Value)} {st : List Value} {l : Launch} {Θ : ZTh} {nL mc0 ms0 : Nat} {cA : ClassId} {δ : Nat × Nat}
theorem z_mono {k' n' : Nat} (h1 : k ≤ k') (h2 : n ≤ n') (h : Z Γ k' n' σ xs pc lv st) : Z Γ k n σ xs pc lv st := fun H locs ls hP hD hS hv => W.widen h1 h2 (h H locs ls hP hD hS hv)
theorem z_ifnullR (X : ZX Γ cc own fr lo) {x : Nat} {off : Int} (d : decode cc pc = .ok (.ifnull off, 3)) (h : Z Γ k n σ xs (pc + 3) lv st) : Z Γ k n σ xs pc lv (.ref x :: st) := fun H locs ls hP hD hS hv => lv_ifnull X.hx X.hb d (h H locs ls hP hD hS hv)
/-- an element more -/
theorem z_yAdd {o v index : Nat} {y : ZY} {T R : va_W} (X : ZX Γ cc own fr lo) (K : ZCap Γ l Θ nL mc0 ms0) (E : ZDe Γ cA δ) (ht : (zt_ty Θ)[5]? = some (cA, .object "java/lang/Object")) (hc : (zt_cl Θ)[12]? = some (RX14, TX14, 4)) (hc6 : (zt_cl Θ)[6]? = some (RJ2, TJ2, 3)) (hy : yOK y) (hyr : yRoom y) (hv : ∃ vs, (v, .inr (12, vs)) ∈ T) (hL : ∀ a ∈ y.2.2, ∃ vs, (a, .inr (12, vs)) ∈ T) (hp : xs.Perm (lsW cA δ o y ++ (T ++ R))) (hl1 : Cond.methodLink own index yJ2_add ∈ lw_all) (hrm : zroom 7 191 fr lo = true) (hcs : k + 1 ≤ mc0 ∧ n + yGrow y ≤ ms0) (hst : (st.map fun v => v.category).sum ≤ 8) (d : decode cc pc = .ok (.invokevirtual index, 3))
    (h : ∀ y', yAdd y v y' → Z Γ (k + 1) (n + yGrow y) σ (lsW cA δ o y' ++ (T ++ R)) (pc + 3) lv (.int (iz 1) :: st)) : Z Γ k n σ xs pc lv (.ref v :: .ref o :: st) := by
  have hw := lw_V hl1 q371 q372 q114 q373
  have hR : 6 + 1 ≤ fr ∧ 8 + (2 + 11) + 170 ≤ lo := zroom_of (nL := 2) hrm
  obtain ⟨m, e, L⟩ := y
  cases e with
  | none =>
    have hL0 : L = [] := hy
    subst hL0
    refine zd_rVI (C := RJ2) (σR := σ) (ys := jLs o m δ.1 0 :: T) X K E (jl_addd (Θ := Θ) ht hc hc6 o v m hv) R hp (i0 := 0) rfl hc6 rfl hw ⟨rfl, by decide, by decide, rfl⟩ hR hcs hst d rfl (fun x σ' ys' hh => ?_)
    obtain ⟨rfl, a, rfl⟩ := hh
    have h1 := h (m + 1, some (a, 10), [v]) ⟨a, rfl⟩
    have e1 : va_up (fun _ => none) 0 (some v) = fun j => ([v] : List Nat)[j]? := by
      have := va_up_app (L := []) (v := v)
      rw [List.nil_append] at this
      rw [← this]
      congr 1
    rw [e1]
    exact h1
  | some q =>
    obtain ⟨el, cap⟩ := q
    obtain ⟨h1, h2, h3⟩ : L.length ≤ cap ∧ 10 ≤ cap ∧ cap ≤ 40000000 := hy
    have hf : ∀ i : Nat, i < cap → ∀ y : Nat, (fun j => L[j]?) i = some y → ∃ vs, (y, .inr (12, vs)) ∈ T := fun i _ y hiy => hL y (List.mem_of_getElem? hiy)
    by_cases hlt : L.length < cap
    · have hg : yGrow (m, some (el, cap), L) = 0 := if_pos hlt
      have hcp : yCap (m, some (el, cap), L) = cap := if_pos hlt
      rw [hg] at hcs h
      refine z_mono (k' := k + 0) (n' := n + 0) (Nat.le_refl _) (Nat.le_refl _) ?_
      refine z_kn (k' := k) (n' := n) rfl rfl ?_
      refine zd_rVI (C := RJ2) (σR := σ) (ys := jLs o m el (L.length : Int) :: jAr cA el cap (fun j => L[j]?) :: T) X K E (jl_add (Θ := Θ) ht hc hc6 o el cap v L.length m (fun j => L[j]?) hlt (by omega) hv) R hp (i0 := 0) rfl hc6 rfl hw ⟨rfl, by decide, by decide, rfl⟩ hR ⟨by omega, by omega⟩ hst d rfl (fun x σ' ys' hh => ?_)
      obtain ⟨rfl, a, rfl⟩ := hh
      refine z_mono (k' := k + 1) (n' := n + 0) (by omega) (Nat.le_refl _) ?_
      have h4 := h (m + 1, some (a, cap), L ++ [v]) ⟨a, by rw [hcp]⟩
      rw [va_up_app]
      have e2 : ((L ++ [v]).length : Int) = (L.length : Int) + 1 := by rw [List.length_append]; rfl
      unfold lsW at h4
      rw [e2] at h4
      exact h4
    · have hle : L.length = cap := by omega
      have hg : yGrow (m, some (el, cap), L) = cap + cap / 2 := if_neg hlt
      have hcp : yCap (m, some (el, cap), L) = cap + cap / 2 := if_neg hlt
      rw [hg] at hcs h
      refine zd_rVI (C := RJ2) (σR := σ) (ys := jLs o m el (cap : Int) :: jAr cA el cap (fun j => L[j]?) :: T) X K E (jl_addg (Θ := Θ) ht hc hc6 o el cap v m (fun j => L[j]?) (by omega) (by omega) hf hv) R (by unfold lsW at hp; rw [show (((m, some (el, cap), L) : ZY).2.2.length : Int) = (cap : Int) from by rw [← hle]] at hp; exact hp) (i0 := 0) rfl hc6 rfl hw ⟨rfl, by decide, by decide, rfl⟩ hR hcs hst d rfl (fun x σ' ys' hh => ?_)
      obtain ⟨rfl, a, rfl⟩ := hh
      have h4 := h (m + 1, some (a, cap + cap / 2), L ++ [v]) ⟨a, by rw [hcp]⟩
      rw [va_cpy_all hle]
      have e3 : va_up (fun j => L[j]?) cap (some v) = fun j => (L ++ [v])[j]? := by
        rw [← hle]
        exact va_up_app
      rw [e3]
      have e2 : ((L ++ [v]).length : Int) = (cap : Int) + 1 := by rw [List.length_append, hle]; rfl
      unfold lsW at h4
      rw [e2] at h4
      exact h4
end ZDY
