/-! ZLIB: ints as whole numbers; a world of cells by a table of kinds; walk rows over both -/
abbrev InR (x : Int) : Prop := -2147483648 ≤ x ∧ x ≤ 2147483647
def iz (x : Int) : Int32 := Int32.ofInt x
theorem iz_toInt {x : Int} (h : InR x) : (iz x).toInt = x := Int32.toInt_ofInt_of_le (by have := h.1; omega) (by have := h.2; omega)
theorem iz_of (v : Int32) : iz v.toInt = v := Int32.ofInt_toInt v
theorem iz_add (x y : Int) : iz x + iz y = iz (x + y) := (Int32.ofInt_add x y).symm
theorem iz_sub (x y : Int) : iz x - iz y = iz (x - y) := (Int32.ofInt_sub x y).symm
theorem iz_mul (x y : Int) : iz x * iz y = iz (x * y) := (Int32.ofInt_mul x y).symm
theorem iz_neg (x : Int) : - iz x = iz (-x) := (Int32.ofInt_neg x).symm
theorem iz_eq {x y : Int} (hx : InR x) (hy : InR y) : iz x = iz y ↔ x = y := by
  constructor
  · intro h
    have h2 := congrArg Int32.toInt h
    rwa [iz_toInt hx, iz_toInt hy] at h2
  · intro h; rw [h]
theorem iz_lt {x y : Int} (hx : InR x) (hy : InR y) : iz x < iz y ↔ x < y := by
  rw [Int32.lt_iff_toInt_lt, iz_toInt hx, iz_toInt hy]
theorem iz_le {x y : Int} (hx : InR x) (hy : InR y) : iz x ≤ iz y ↔ x ≤ y := by
  rw [Int32.le_iff_toInt_le, iz_toInt hx, iz_toInt hy]
theorem InR_toInt (v : Int32) : InR v.toInt := by
  have h1 := Int32.le_toInt v
  have h2 := Int32.toInt_lt v
  exact ⟨by omega, by omega⟩
theorem InR0 : InR 0 := ⟨by decide, by decide⟩
theorem iz_zero : iz 0 = 0 := rfl
theorem iz_eq0 {x : Int} (hx : InR x) : iz x = 0 ↔ x = 0 := iz_eq hx InR0
theorem iz_lt0 {x : Int} (hx : InR x) : iz x < 0 ↔ x < 0 := iz_lt hx InR0
theorem iz_0lt {x : Int} (hx : InR x) : 0 < iz x ↔ 0 < x := iz_lt InR0 hx
theorem iz_le0 {x : Int} (hx : InR x) : iz x ≤ 0 ↔ x ≤ 0 := iz_le hx InR0
theorem iz_0le {x : Int} (hx : InR x) : 0 ≤ iz x ↔ 0 ≤ x := iz_le InR0 hx
theorem iz_div {x y : Int} (hx : InR x) (hy : InR y) (h0 : 0 ≤ x) (h1 : 0 < y) : iz x / iz y = iz (x / y) := by
  apply Int32.toInt_inj.mp
  rw [Int32.toInt_div, iz_toInt hx, iz_toInt hy, Int.tdiv_eq_ediv_of_nonneg h0]
  have h2 : 0 ≤ x / y := Int.ediv_nonneg h0 (by omega)
  have h3 : x / y ≤ x := Int.ediv_le_self y h0
  have hh : InR (x / y) := ⟨by omega, by have := hx.2; omega⟩
  rw [iz_toInt hh, Int.bmod_eq_of_le (by have := hh.1; omega) (by have := hh.2; omega)]
theorem iz_rem {x y : Int} (hx : InR x) (hy : InR y) (h0 : 0 ≤ x) (h1 : 0 < y) : iz x - iz x / iz y * iz y = iz (x % y) := by
  rw [iz_div hx hy h0 h1, iz_mul, iz_sub, Int.emod_def, Int.mul_comm]
/-- bit words on whole numbers, through the machine's own -/
def zand (a b : Int) : Int := (iz a &&& iz b).toInt
def zor (a b : Int) : Int := (iz a ||| iz b).toInt
def zxor (a b : Int) : Int := (iz a ^^^ iz b).toInt
def zshl (a b : Int) : Int := (iz a <<< (iz b &&& 31)).toInt
def zshr (a b : Int) : Int := (iz a >>> (iz b &&& 31)).toInt
def zi2b (a : Int) : Int := (iz a).toInt8.toInt32.toInt
def zl2i (w : Int64) : Int := w.toInt32.toInt
def zi2l (a : Int) : Int64 := (iz a).toInt64
def zlshr (w : Int64) (s : Int) : Int64 := w >>> ((iz s).toInt64 &&& 63)
def zlshl (w : Int64) (s : Int) : Int64 := w <<< ((iz s).toInt64 &&& 63)
theorem zand_iz (a b : Int) : iz a &&& iz b = iz (zand a b) := (iz_of _).symm
theorem zor_iz (a b : Int) : iz a ||| iz b = iz (zor a b) := (iz_of _).symm
theorem zxor_iz (a b : Int) : iz a ^^^ iz b = iz (zxor a b) := (iz_of _).symm
theorem zshl_iz (a b : Int) : iz a <<< (iz b &&& 31) = iz (zshl a b) := (iz_of _).symm
theorem zshr_iz (a b : Int) : iz a >>> (iz b &&& 31) = iz (zshr a b) := (iz_of _).symm
theorem zi2b_iz (a : Int) : (iz a).toInt8.toInt32 = iz (zi2b a) := (iz_of _).symm
theorem zl2i_iz (w : Int64) : w.toInt32 = iz (zl2i w) := (iz_of _).symm
theorem zand_in (a b : Int) : InR (zand a b) := InR_toInt _
theorem zor_in (a b : Int) : InR (zor a b) := InR_toInt _
theorem zxor_in (a b : Int) : InR (zxor a b) := InR_toInt _
theorem zshl_in (a b : Int) : InR (zshl a b) := InR_toInt _
theorem zshr_in (a b : Int) : InR (zshr a b) := InR_toInt _
theorem zi2b_in (a : Int) : InR (zi2b a) := InR_toInt _
theorem zl2i_in (w : Int64) : InR (zl2i w) := InR_toInt _
theorem iz_vp_in {i : Int} {n : Nat} (h0 : 0 ≤ i) (h1 : i < n) (hn : n < 2147483648) : vp_in (iz i) n := by
  have hi : InR i := ⟨by omega, by omega⟩
  rw [vp_in_iff, iz_toInt hi]
  exact ⟨h0, h1⟩
theorem iz_clamp {i : Int} {n : Nat} (h0 : 0 ≤ i) (h1 : i < n) (hn : n < 2147483648) : (iz i).toNatClampNeg = i.toNat := by
  have hi : InR i := ⟨by omega, by omega⟩
  show (iz i).toInt.toNat = i.toNat
  rw [iz_toInt hi]
/-! the state: of each cell, by field or by place -/
abbrev ZS : Type := Nat → Int → Int
def zst (σ : ZS) (q : Nat) (i v : Int) : ZS := fun q' i' => if q' = q ∧ i' = i then v else σ q' i'
theorem zst_self (σ : ZS) (q : Nat) (i v : Int) : zst σ q i v q i = v := by simp [zst]
theorem zst_cell {σ : ZS} {q q' : Nat} {i v i' : Int} (h : q' ≠ q) : zst σ q i v q' i' = σ q' i' := by simp [zst, h]
theorem zst_place {σ : ZS} {q q' : Nat} {i v i' : Int} (h : i' ≠ i) : zst σ q i v q' i' = σ q' i' := by simp [zst, h]
theorem zst_at (σ : ZS) (q : Nat) (i v i' : Int) : zst σ q i v q i' = if i' = i then v else σ q i' := by simp [zst]
theorem zst_row {σ : ZS} {q q' : Nat} {i v : Int} (h : q' ≠ q) : zst σ q i v q' = σ q' := funext fun i' => zst_cell h
/-- a field's value by its kind: 0 an int, 1 a reference that may be null (a cell's number; below 0: null), k + 2 the cell k -/
def zval (ad : Nat → Nat) (k : Nat) (x : Int) : Value := match k with
  | 0 => .int (iz x)
  | 1 => if x < 0 then .null else .ref (ad x.toNat)
  | k + 2 => .ref (ad k)
/-- a cell's kind: an object (its class's number, its fields' kinds), an array of numbers (the type's place, its length), an array of references (the type's place, the cells) -/
abbrev ZC : Type := (Nat × List Nat) ⊕ (Nat × Nat) ⊕ (Nat × List Nat)
def zfs (ad : Nat → Nat) (ks : List Nat) (f : Int → Int) : List Value := (List.range ks.length).map fun j => zval ad (ks.getD j 0) (f (j : Int))
def zE (tys : List (ClassId × FieldType)) (ad : Nat → Nat) (c : ZC) (f : Int → Int) : va_E := match c with
  | .inl (ci, ks) => .inr (ci, zfs ad ks f)
  | .inr (.inl (t, n)) => .inl ((tys.getD t (0, .int)).1, n, .inl fun j => iz (f (j : Int)))
  | .inr (.inr (t, ts)) => .inl ((tys.getD t (0, .int)).1, ts.length, .inr (.inr (.inr (.inr fun j => (ts[j]?).map ad))))
def zw (tys : List (ClassId × FieldType)) (ad : Nat → Nat) (L : Nat → ZC) (N : Nat) (σ : ZS) : va_W := (List.range N).map fun q => (ad q, zE tys ad (L q) (σ q))
theorem zw_get {tys : List (ClassId × FieldType)} {ad : Nat → Nat} {L : Nat → ZC} {N : Nat} {σ : ZS} {xs : va_W} {q : Nat} (h : q < N) : (zw tys ad L N σ ++ xs)[q]? = some (ad q, zE tys ad (L q) (σ q)) := by
  have hl : (zw tys ad L N σ).length = N := by simp [zw]
  rw [List.getElem?_append_left (by omega)]
  simp [zw, h]
theorem zw_set {tys : List (ClassId × FieldType)} {ad : Nat → Nat} {L : Nat → ZC} {N : Nat} {σ σ' : ZS} {xs : va_W} {q : Nat} (h : q < N) (ho : ∀ q', q' ≠ q → σ' q' = σ q') : (zw tys ad L N σ ++ xs).set q (ad q, zE tys ad (L q) (σ' q)) = zw tys ad L N σ' ++ xs := by
  have hl : (zw tys ad L N σ).length = N := by simp [zw]
  have hl' : (zw tys ad L N σ').length = N := by simp [zw]
  rw [List.set_append_left _ _ (by omega)]
  congr 1
  apply List.ext_getElem?
  intro j
  by_cases hj : j = q
  · subst hj
    rw [List.getElem?_set_self (by omega)]
    simp [zw, h]
  · rw [List.getElem?_set_ne (Ne.symm hj)]
    simp only [zw, List.getElem?_map]
    cases hr : (List.range N)[j]? with
    | none => rfl
    | some z =>
      have hz : z = j := by
        have := List.getElem?_eq_some_iff.mp hr
        obtain ⟨h1, h2⟩ := this
        rw [List.getElem_range] at h2
        exact h2.symm
      subst hz
      simp [ho z hj]
theorem zfs_get {ad : Nat → Nat} {ks : List Nat} {f : Int → Int} {k : Nat} {kd : Nat} (hk : ks[k]? = some kd) : (zfs ad ks f)[k]? = some (zval ad kd (f (k : Int))) := by
  have h1 : k < ks.length := (List.getElem?_eq_some_iff.mp hk).1
  simp [zfs, h1, List.getElem?_eq_getElem h1 ▸ hk]
theorem zfs_set {ad : Nat → Nat} {ks : List Nat} {f : Int → Int} {k : Nat} {kd : Nat} (hk : ks[k]? = some kd) (x : Int) : (zfs ad ks f).set k (zval ad kd x) = zfs ad ks (fun j => if j = (k : Int) then x else f j) := by
  have h1 : k < ks.length := (List.getElem?_eq_some_iff.mp hk).1
  have h2 : ks.getD k 0 = kd := by simp [List.getD, hk]
  apply List.ext_getElem?
  intro j
  by_cases hj : j = k
  · subst hj
    rw [List.getElem?_set_self (by simp [zfs, h1])]
    have h3 : ks[j] = kd := by rw [List.getElem?_eq_getElem h1] at hk; exact Option.some.inj hk
    simp [zfs, h1, h3]
  · rw [List.getElem?_set_ne (Ne.symm hj)]
    have hj' : (j : Int) ≠ (k : Int) := by omega
    simp only [zfs, List.getElem?_map]
    cases hr : (List.range ks.length)[j]? with
    | none => rfl
    | some z =>
      obtain ⟨h3, h4⟩ := List.getElem?_eq_some_iff.mp hr
      rw [List.getElem_range] at h4
      subst h4
      simp [hj']
theorem zfs_len {ad : Nat → Nat} {ks : List Nat} {f : Int → Int} : (zfs ad ks f).length = ks.length := by simp [zfs]
/-! the world's frame: classes, array types, addresses, kinds, number of cells; and the walk's whole frame -/
abbrev ZTh : Type := va_G × List vw_C × List (ClassId × FieldType) × (Nat → Nat) × (Nat → ZC) × Nat
def zt_D (Θ : ZTh) : va_G := Θ.1
def zt_cl (Θ : ZTh) : List vw_C := Θ.2.1
def zt_ty (Θ : ZTh) : List (ClassId × FieldType) := Θ.2.2.1
def zt_ad (Θ : ZTh) : Nat → Nat := Θ.2.2.2.1
def zt_L (Θ : ZTh) : Nat → ZC := Θ.2.2.2.2.1
def zt_N (Θ : ZTh) : Nat := Θ.2.2.2.2.2
def zt_W (Θ : ZTh) (σ : ZS) (xs : va_W) : va_W := zw (zt_ty Θ) (zt_ad Θ) (zt_L Θ) (zt_N Θ) σ ++ xs
abbrev ZG : Type := Program × Launch × Env × Room × State × MethodId × Array Value × List Frame × Method × Code × (State → Prop) × (Nat → Prop) × ZTh × Nat
def zg_p (Γ : ZG) : Program := Γ.1
def zg_l (Γ : ZG) : Launch := Γ.2.1
def zg_e (Γ : ZG) : Env := Γ.2.2.1
def zg_R (Γ : ZG) : Room := Γ.2.2.2.1
def zg_s (Γ : ZG) : State := Γ.2.2.2.2.1
def zg_m (Γ : ZG) : MethodId := Γ.2.2.2.2.2.1
def zg_a (Γ : ZG) : Array Value := Γ.2.2.2.2.2.2.1
def zg_b (Γ : ZG) : List Frame := Γ.2.2.2.2.2.2.2.1
def zg_me (Γ : ZG) : Method := Γ.2.2.2.2.2.2.2.2.1
def zg_c (Γ : ZG) : Code := Γ.2.2.2.2.2.2.2.2.2.1
def zg_Q (Γ : ZG) : State → Prop := Γ.2.2.2.2.2.2.2.2.2.2.1
def zg_A (Γ : ZG) : Nat → Prop := Γ.2.2.2.2.2.2.2.2.2.2.2.1
def zg_T (Γ : ZG) : ZTh := Γ.2.2.2.2.2.2.2.2.2.2.2.2.1
def zg_n (Γ : ZG) : Nat := Γ.2.2.2.2.2.2.2.2.2.2.2.2.2
/-- words of the tables that don't ride in the lists: nest mates' links, castable, declares; they hold at every point of a run -/
def zIsN (w : Cond) : Bool := match w with
  | .fieldLinkNest _ _ _ _ _ _ => true
  | .methodLinkNest _ _ _ _ => true
  | .castable _ _ => true
  | .declares _ => true
  | _ => false
def lw_nest : List Cond := lw_tbl.filter zIsN
def zNw (U : State) : Prop := (∀ w ∈ lw_nest, va_Nw w U) ∧ va_AO "MatrixPress$Symbol" U ∧ va_AO "java/lang/Object" U
theorem zNw_in {w : Cond} (h : w ∈ lw_tbl) (g : zIsN w = true) : w ∈ lw_nest := List.mem_filter.mpr ⟨h, g⟩
theorem zNw.warm {s U : State} (hW : s.WarmedH U.vm) (h : zNw s) : zNw U := by
  refine ⟨fun w hw => ?_, h.2.1.moved hW.alike, h.2.2.moved hW.alike⟩
  have h1 := h.1 w hw
  have h2 := (List.mem_filter.mp hw).2
  revert h1 h2
  cases w <;> intro h1 h2 <;> first | (exact absurd h2 (by decide)) | exact va_Nw.warmF hW h1 | exact va_Nw.warmM hW h1 | exact va_Nw.warmC hW h1 | exact va_Nw.warmD hW h1 | (simp [zIsN] at h2)
theorem zNw.same {u U : State} (h : u.vm = U.vm) (hu : zNw u) : zNw U := by
  refine ⟨fun w hw => ?_, hu.2.1.moved (by rw [h]; exact Vm.Alike.refl U.vm), hu.2.2.moved (by rw [h]; exact Vm.Alike.refl U.vm)⟩
  have h1 := hu.1 w hw
  have h2 := (List.mem_filter.mp hw).2
  have h3 : w.onTables = true := by
    revert h2
    cases w <;> intro h2 <;> first | rfl | (simp [zIsN] at h2)
  exact h1.same h3 h
theorem zNw.of {A : Array Value} {U : State} (h : ∀ w ∈ lw_tbl, w.before A U = true) (h1 : (Cond.arrayOver (.object "MatrixPress$Symbol")) ∈ lw_tbl) (h2 : (Cond.arrayOver (.object "java/lang/Object")) ∈ lw_tbl) : zNw U := by
  refine ⟨fun w hw => ?_, va_AO.of (h _ h1), va_AO.of (h _ h2)⟩
  have hz := (List.mem_filter.mp hw).2
  have h3 : w.onTables = true := by
    revert hz
    cases w <;> intro h2 <;> first | rfl | (simp [zIsN] at h2)
  exact va_Nw.of h3 (h w (List.mem_filter.mp hw).1)
/-- two statics of Throwable, which an exception's constructor reads -/
def zSt (A : Nat → Prop) (U : State) (H : Heap) : Prop := vx_Zq Bundle.tN "UNASSIGNED_STACK" Bundle.steD A U H ∧ vx_Zq Bundle.tN "SUPPRESSED_SENTINEL" Bundle.listD A U H
theorem zSt.go {A B : Nat → Prop} {s U : State} {H0 H : Heap} {locs : List Loc} (h : zSt A s H0) (hS : va_S A H0 H locs) (hvm : s.vm.Alike U.vm) (hAB : ∀ q, B q → A q) : zSt B U H :=
  ⟨((h.1.kept hS.2.1).moved hvm).narrow hAB, ((h.2.kept hS.2.1).moved hvm).narrow hAB⟩
/-- what holds all through a method: machine, code, class, words, the tables' facts; the room's frames and words of locals -/
def ZX (Γ : ZG) (cc : ByteArray) (own : String) (fr lo : Nat) : Prop :=
  (zg_p Γ).tables.exec = Jvm.exec ∧ (zg_c Γ).code = cc ∧ (zg_c Γ).maxLocals = zg_n Γ ∧ (zg_s Γ).vm.findClass own = some (zg_m Γ).cls ∧ (∀ w ∈ lw_all, w.before (zg_a Γ) (zg_s Γ) = true) ∧ (zg_me Γ).locks = false ∧ va_K (zt_D (zg_T Γ)) (zt_cl (zg_T Γ)) (zt_ty (zg_T Γ)) (zg_s Γ) ∧ (∀ q, (zg_s Γ).heap.size ≤ q → zg_A Γ q) ∧ (zg_R Γ).frames = fr ∧ (zg_R Γ).locals = lo ∧ zNw (zg_s Γ) ∧ zSt (zg_A Γ) (zg_s Γ) (zg_s Γ).heap
theorem ZX.hx {Γ : ZG} {cc : ByteArray} {own : String} {fr lo : Nat} (X : ZX Γ cc own fr lo) : (zg_p Γ).tables.exec = Jvm.exec := X.1
theorem ZX.hb {Γ : ZG} {cc : ByteArray} {own : String} {fr lo : Nat} (X : ZX Γ cc own fr lo) : (zg_c Γ).code = cc := X.2.1
theorem ZX.hml {Γ : ZG} {cc : ByteArray} {own : String} {fr lo : Nat} (X : ZX Γ cc own fr lo) : (zg_c Γ).maxLocals = zg_n Γ := X.2.2.1
theorem ZX.hown {Γ : ZG} {cc : ByteArray} {own : String} {fr lo : Nat} (X : ZX Γ cc own fr lo) : (zg_s Γ).vm.findClass own = some (zg_m Γ).cls := X.2.2.2.1
theorem ZX.hts {Γ : ZG} {cc : ByteArray} {own : String} {fr lo : Nat} (X : ZX Γ cc own fr lo) : ∀ w ∈ lw_all, w.before (zg_a Γ) (zg_s Γ) = true := X.2.2.2.2.1
theorem ZX.hlk {Γ : ZG} {cc : ByteArray} {own : String} {fr lo : Nat} (X : ZX Γ cc own fr lo) : (zg_me Γ).locks = false := X.2.2.2.2.2.1
theorem ZX.hK {Γ : ZG} {cc : ByteArray} {own : String} {fr lo : Nat} (X : ZX Γ cc own fr lo) : va_K (zt_D (zg_T Γ)) (zt_cl (zg_T Γ)) (zt_ty (zg_T Γ)) (zg_s Γ) := X.2.2.2.2.2.2.1
theorem ZX.hA {Γ : ZG} {cc : ByteArray} {own : String} {fr lo : Nat} (X : ZX Γ cc own fr lo) : ∀ q, (zg_s Γ).heap.size ≤ q → zg_A Γ q := X.2.2.2.2.2.2.2.1
theorem ZX.hfr {Γ : ZG} {cc : ByteArray} {own : String} {fr lo : Nat} (X : ZX Γ cc own fr lo) : (zg_R Γ).frames = fr := X.2.2.2.2.2.2.2.2.1
theorem ZX.hlo {Γ : ZG} {cc : ByteArray} {own : String} {fr lo : Nat} (X : ZX Γ cc own fr lo) : (zg_R Γ).locals = lo := X.2.2.2.2.2.2.2.2.2.1
theorem ZX.hNw {Γ : ZG} {cc : ByteArray} {own : String} {fr lo : Nat} (X : ZX Γ cc own fr lo) : zNw (zg_s Γ) := X.2.2.2.2.2.2.2.2.2.2.1
theorem ZX.hSt {Γ : ZG} {cc : ByteArray} {own : String} {fr lo : Nat} (X : ZX Γ cc own fr lo) : zSt (zg_A Γ) (zg_s Γ) (zg_s Γ).heap := X.2.2.2.2.2.2.2.2.2.2.2
theorem ZX.nw {Γ : ZG} {cc : ByteArray} {own : String} {fr lo : Nat} (X : ZX Γ cc own fr lo) {w : Cond} (h : w ∈ lw_tbl) (g : zIsN w = true) : va_Nw w (zg_s Γ) := X.hNw.1 w (zNw_in h g)
/-- the walk's goal: from any heap that holds the state σ (and the cells xs beside) -/
def Z (Γ : ZG) (k n : Nat) (σ : ZS) (xs : va_W) (pc : Nat) (lv : List (Nat × Value)) (st : List Value) : Prop :=
  ∀ (H : Heap) (locs : List Loc) (ls : Array Slot), va_P (zt_D (zg_T Γ)) (zt_cl (zg_T Γ)) (zt_W (zg_T Γ) σ xs) H → va_D (zg_A Γ) (zt_W (zg_T Γ) σ xs) → va_S (zg_A Γ) (zg_s Γ).heap H locs → lv_has ls (zg_n Γ) lv →
    W (zg_p Γ) (zg_l Γ) (zg_e Γ) (zg_R Γ) (zg_s Γ) (zg_m Γ) (zg_a Γ) (zg_b Γ) (zg_me Γ) (zg_c Γ) H locs k n (zg_Q Γ) (F0 (zg_m Γ) pc ls st)
section ZROWS
variable {Γ : ZG} {cc : ByteArray} {own : String} {fr lo : Nat} {k n : Nat} {σ : ZS} {xs : va_W} {pc : Nat} {lv : List (Nat × Value)} {st : List Value} {a b : Int}
theorem z_sub {lv' : List (Nat × Value)} (ks : List Nat) (hl : lv_pick lv ks = lv') (h : Z Γ k n σ xs pc lv' st) : Z Γ k n σ xs pc lv st := fun H locs ls hP hD hS hv => h H locs ls hP hD hS (lv_sub hv ks hl)
theorem z_iconst (X : ZX Γ cc own fr lo) (v : Int) (d : decode cc pc = .ok (.iconst v, 1)) (h : Z Γ k n σ xs (pc + 1) lv (.int (iz v) :: st)) : Z Γ k n σ xs pc lv st := fun H locs ls hP hD hS hv => lv_iconst X.hx X.hb d rfl (h H locs ls hP hD hS hv)
theorem z_bipush (X : ZX Γ cc own fr lo) (v : Int) (d : decode cc pc = .ok (.bipush v, 2)) (e : (Int8.ofInt v).toInt32 = iz v) (h : Z Γ k n σ xs (pc + 2) lv (.int (iz v) :: st)) : Z Γ k n σ xs pc lv st := fun H locs ls hP hD hS hv => lv_bipush X.hx X.hb d e (h H locs ls hP hD hS hv)
theorem z_sipush (X : ZX Γ cc own fr lo) (v : Int) (d : decode cc pc = .ok (.sipush v, 3)) (e : (Int16.ofInt v).toInt32 = iz v) (h : Z Γ k n σ xs (pc + 3) lv (.int (iz v) :: st)) : Z Γ k n σ xs pc lv st := fun H locs ls hP hD hS hv => lv_sipush X.hx X.hb d e (h H locs ls hP hD hS hv)
theorem z_ldc (X : ZX Γ cc own fr lo) (v : Int) {index : Nat} {v0 : Int32} (hc : Cond.constant own index v0 ∈ lw_all) (e : v0 = iz v) (d : decode cc pc = .ok (.ldc index, 2)) (h : Z Γ k n σ xs (pc + 2) lv (.int (iz v) :: st)) : Z Γ k n σ xs pc lv st := fun H locs ls hP hD hS hv => lv_ldc X.hx X.hb X.hown (X.hts _ hc) d (by rw [e]; exact h H locs ls hP hD hS hv)
theorem z_ldcw (X : ZX Γ cc own fr lo) (v : Int) {index : Nat} {v0 : Int32} (hc : Cond.constant own index v0 ∈ lw_all) (e : v0 = iz v) (d : decode cc pc = .ok (.ldc_w index, 3)) (h : Z Γ k n σ xs (pc + 3) lv (.int (iz v) :: st)) : Z Γ k n σ xs pc lv st := fun H locs ls hP hD hS hv => lv_ldcw X.hx X.hb X.hown (X.hts _ hc) d (by rw [e]; exact h H locs ls hP hD hS hv)
theorem z_iload_n (X : ZX Γ cc own fr lo) {j : Fin 4} {x : Int32} (p0 : Nat) (d : decode cc pc = .ok (.iload_n j, 1)) (hl : lv[p0]? = some ((j : Nat), .int x)) (h : Z Γ k n σ xs (pc + 1) lv (.int x :: st)) : Z Γ k n σ xs pc lv st := fun H locs ls hP hD hS hv => lv_iload_n X.hx X.hb d rfl (lv_at hv p0 hl) (h H locs ls hP hD hS hv)
theorem z_iload (X : ZX Γ cc own fr lo) {j : Nat} {x : Int32} (p0 : Nat) (d : decode cc pc = .ok (.iload j, 2)) (hl : lv[p0]? = some (j, .int x)) (h : Z Γ k n σ xs (pc + 2) lv (.int x :: st)) : Z Γ k n σ xs pc lv st := fun H locs ls hP hD hS hv => lv_iload X.hx X.hb d (lv_at hv p0 hl) (h H locs ls hP hD hS hv)
theorem z_lload_n (X : ZX Γ cc own fr lo) {j : Fin 4} {x : Int64} (p0 : Nat) (d : decode cc pc = .ok (.lload_n j, 1)) (hl : lv[p0]? = some ((j : Nat), .long x)) (h : Z Γ k n σ xs (pc + 1) lv (.long x :: st)) : Z Γ k n σ xs pc lv st := fun H locs ls hP hD hS hv => lv_lload_n X.hx X.hb d rfl (lv_at hv p0 hl) (h H locs ls hP hD hS hv)
theorem z_lload (X : ZX Γ cc own fr lo) {j : Nat} {x : Int64} (p0 : Nat) (d : decode cc pc = .ok (.lload j, 2)) (hl : lv[p0]? = some (j, .long x)) (h : Z Γ k n σ xs (pc + 2) lv (.long x :: st)) : Z Γ k n σ xs pc lv st := fun H locs ls hP hD hS hv => lv_lload X.hx X.hb d (lv_at hv p0 hl) (h H locs ls hP hD hS hv)
theorem z_aload_n (X : ZX Γ cc own fr lo) {j : Fin 4} {x : Nat} (p0 : Nat) (d : decode cc pc = .ok (.aload_n j, 1)) (hl : lv[p0]? = some ((j : Nat), .ref x)) (h : Z Γ k n σ xs (pc + 1) lv (.ref x :: st)) : Z Γ k n σ xs pc lv st := fun H locs ls hP hD hS hv => lv_aload_n X.hx X.hb d rfl (lv_at hv p0 hl) (h H locs ls hP hD hS hv)
theorem z_aload (X : ZX Γ cc own fr lo) {j : Nat} {x : Nat} (p0 : Nat) (d : decode cc pc = .ok (.aload j, 2)) (hl : lv[p0]? = some (j, .ref x)) (h : Z Γ k n σ xs (pc + 2) lv (.ref x :: st)) : Z Γ k n σ xs pc lv st := fun H locs ls hP hD hS hv => lv_aload X.hx X.hb d (lv_at hv p0 hl) (h H locs ls hP hD hS hv)
theorem z_istore_n (X : ZX Γ cc own fr lo) {j : Fin 4} {x : Int32} {lv' : List (Nat × Value)} (d : decode cc pc = .ok (.istore_n j, 1)) (hn : (j : Nat) < zg_n Γ) (hl : ((j : Nat), Value.int x) :: lv.filter (fun q => !(q.1 == (j : Nat)) && !(q.1 + 1 == (j : Nat) && q.2.category == 2)) = lv') (h : Z Γ k n σ xs (pc + 1) lv' st) : Z Γ k n σ xs pc lv (.int x :: st) := fun H locs ls hP hD hS hv => lv_istore_n X.hx X.hb d rfl hv hn hl (fun ls' hv' => h H locs ls' hP hD hS hv')
theorem z_istore (X : ZX Γ cc own fr lo) {j : Nat} {x : Int32} {lv' : List (Nat × Value)} (d : decode cc pc = .ok (.istore j, 2)) (hn : j < zg_n Γ) (hl : (j, Value.int x) :: lv.filter (fun q => !(q.1 == j) && !(q.1 + 1 == j && q.2.category == 2)) = lv') (h : Z Γ k n σ xs (pc + 2) lv' st) : Z Γ k n σ xs pc lv (.int x :: st) := fun H locs ls hP hD hS hv => lv_istore X.hx X.hb d hv hn hl (fun ls' hv' => h H locs ls' hP hD hS hv')
theorem z_lstore (X : ZX Γ cc own fr lo) {j : Nat} {x : Int64} {lv' : List (Nat × Value)} (d : decode cc pc = .ok (.lstore j, 2)) (hn : j + 1 < zg_n Γ) (hl : (j, Value.long x) :: lv.filter (fun q => !(q.1 == j) && (!(q.1 == j + 1) && !(q.1 + 1 == j && q.2.category == 2))) = lv') (h : Z Γ k n σ xs (pc + 2) lv' st) : Z Γ k n σ xs pc lv (.long x :: st) := fun H locs ls hP hD hS hv => lv_lstore X.hx X.hb d hv hn hl (fun ls' hv' => h H locs ls' hP hD hS hv')
theorem z_astore_n (X : ZX Γ cc own fr lo) {j : Fin 4} {x : Nat} {lv' : List (Nat × Value)} (d : decode cc pc = .ok (.astore_n j, 1)) (hn : (j : Nat) < zg_n Γ) (hl : ((j : Nat), Value.ref x) :: lv.filter (fun q => !(q.1 == (j : Nat)) && !(q.1 + 1 == (j : Nat) && q.2.category == 2)) = lv') (h : Z Γ k n σ xs (pc + 1) lv' st) : Z Γ k n σ xs pc lv (.ref x :: st) := fun H locs ls hP hD hS hv => lv_astore_n X.hx X.hb d rfl hv hn hl (fun ls' hv' => h H locs ls' hP hD hS hv')
theorem z_astore (X : ZX Γ cc own fr lo) {j : Nat} {x : Nat} {lv' : List (Nat × Value)} (d : decode cc pc = .ok (.astore j, 2)) (hn : j < zg_n Γ) (hl : (j, Value.ref x) :: lv.filter (fun q => !(q.1 == j) && !(q.1 + 1 == j && q.2.category == 2)) = lv') (h : Z Γ k n σ xs (pc + 2) lv' st) : Z Γ k n σ xs pc lv (.ref x :: st) := fun H locs ls hP hD hS hv => lv_astore X.hx X.hb d hv hn hl (fun ls' hv' => h H locs ls' hP hD hS hv')
theorem z_iinc (X : ZX Γ cc own fr lo) {j : Nat} {m : Int} (p0 : Nat) {lv' : List (Nat × Value)} (d : decode cc pc = .ok (.iinc j m, 3)) (hk : lv[p0]? = some (j, .int (iz a))) (hn : j < zg_n Γ) (hl : (j, Value.int (iz (a + m))) :: lv.filter (fun q => !(q.1 == j) && !(q.1 + 1 == j && q.2.category == 2)) = lv') (h : Z Γ k n σ xs (pc + 3) lv' st) : Z Γ k n σ xs pc lv st := fun H locs ls hP hD hS hv => lv_iinc (k := p0) X.hx X.hb d hv hk (iz_add a m) hn hl (fun ls' hv' => h H locs ls' hP hD hS hv')
theorem z_iadd (X : ZX Γ cc own fr lo) (d : decode cc pc = .ok (.iadd, 1)) (h : Z Γ k n σ xs (pc + 1) lv (.int (iz (a + b)) :: st)) : Z Γ k n σ xs pc lv (.int (iz b) :: .int (iz a) :: st) := fun H locs ls hP hD hS hv => lv_iadd X.hx X.hb d (by rw [iz_add]; exact h H locs ls hP hD hS hv)
theorem z_isub (X : ZX Γ cc own fr lo) (d : decode cc pc = .ok (.isub, 1)) (h : Z Γ k n σ xs (pc + 1) lv (.int (iz (a - b)) :: st)) : Z Γ k n σ xs pc lv (.int (iz b) :: .int (iz a) :: st) := fun H locs ls hP hD hS hv => lv_isub X.hx X.hb d (by rw [iz_sub]; exact h H locs ls hP hD hS hv)
theorem z_imul (X : ZX Γ cc own fr lo) (d : decode cc pc = .ok (.imul, 1)) (h : Z Γ k n σ xs (pc + 1) lv (.int (iz (a * b)) :: st)) : Z Γ k n σ xs pc lv (.int (iz b) :: .int (iz a) :: st) := fun H locs ls hP hD hS hv => lv_imul X.hx X.hb d (by rw [iz_mul]; exact h H locs ls hP hD hS hv)
theorem z_ineg (X : ZX Γ cc own fr lo) (d : decode cc pc = .ok (.ineg, 1)) (h : Z Γ k n σ xs (pc + 1) lv (.int (iz (-a)) :: st)) : Z Γ k n σ xs pc lv (.int (iz a) :: st) := fun H locs ls hP hD hS hv => lv_ineg X.hx X.hb d (by rw [iz_neg]; exact h H locs ls hP hD hS hv)
theorem z_iand (X : ZX Γ cc own fr lo) (d : decode cc pc = .ok (.iand, 1)) (h : Z Γ k n σ xs (pc + 1) lv (.int (iz (zand a b)) :: st)) : Z Γ k n σ xs pc lv (.int (iz b) :: .int (iz a) :: st) := fun H locs ls hP hD hS hv => lv_iand X.hx X.hb d (by rw [zand_iz]; exact h H locs ls hP hD hS hv)
theorem z_ior (X : ZX Γ cc own fr lo) (d : decode cc pc = .ok (.ior, 1)) (h : Z Γ k n σ xs (pc + 1) lv (.int (iz (zor a b)) :: st)) : Z Γ k n σ xs pc lv (.int (iz b) :: .int (iz a) :: st) := fun H locs ls hP hD hS hv => lv_ior X.hx X.hb d (by rw [zor_iz]; exact h H locs ls hP hD hS hv)
theorem z_ixor (X : ZX Γ cc own fr lo) (d : decode cc pc = .ok (.ixor, 1)) (h : Z Γ k n σ xs (pc + 1) lv (.int (iz (zxor a b)) :: st)) : Z Γ k n σ xs pc lv (.int (iz b) :: .int (iz a) :: st) := fun H locs ls hP hD hS hv => lv_ixor X.hx X.hb d (by rw [zxor_iz]; exact h H locs ls hP hD hS hv)
theorem z_ishl (X : ZX Γ cc own fr lo) (d : decode cc pc = .ok (.ishl, 1)) (h : Z Γ k n σ xs (pc + 1) lv (.int (iz (zshl a b)) :: st)) : Z Γ k n σ xs pc lv (.int (iz b) :: .int (iz a) :: st) := fun H locs ls hP hD hS hv => lv_ishl X.hx X.hb d (by rw [zshl_iz]; exact h H locs ls hP hD hS hv)
theorem z_ishr (X : ZX Γ cc own fr lo) (d : decode cc pc = .ok (.ishr, 1)) (h : Z Γ k n σ xs (pc + 1) lv (.int (iz (zshr a b)) :: st)) : Z Γ k n σ xs pc lv (.int (iz b) :: .int (iz a) :: st) := fun H locs ls hP hD hS hv => lv_ishr X.hx X.hb d (by rw [zshr_iz]; exact h H locs ls hP hD hS hv)
theorem z_i2b (X : ZX Γ cc own fr lo) (d : decode cc pc = .ok (.i2b, 1)) (h : Z Γ k n σ xs (pc + 1) lv (.int (iz (zi2b a)) :: st)) : Z Γ k n σ xs pc lv (.int (iz a) :: st) := fun H locs ls hP hD hS hv => lv_i2b X.hx X.hb d (zi2b_iz a) (h H locs ls hP hD hS hv)
theorem z_l2i (X : ZX Γ cc own fr lo) {w : Int64} (d : decode cc pc = .ok (.l2i, 1)) (h : Z Γ k n σ xs (pc + 1) lv (.int (iz (zl2i w)) :: st)) : Z Γ k n σ xs pc lv (.long w :: st) := fun H locs ls hP hD hS hv => lv_l2i X.hx X.hb d (zl2i_iz w) (h H locs ls hP hD hS hv)
theorem z_lshr (X : ZX Γ cc own fr lo) {w : Int64} (d : decode cc pc = .ok (.lshr, 1)) (h : Z Γ k n σ xs (pc + 1) lv (.long (zlshr w a) :: st)) : Z Γ k n σ xs pc lv (.int (iz a) :: .long w :: st) := fun H locs ls hP hD hS hv => lv_lshr X.hx X.hb d rfl (h H locs ls hP hD hS hv)
theorem z_idiv (X : ZX Γ cc own fr lo) (d : decode cc pc = .ok (.idiv, 1)) (hg : InR a ∧ InR b ∧ 0 ≤ a ∧ 0 < b) (h : Z Γ k n σ xs (pc + 1) lv (.int (iz (a / b)) :: st)) : Z Γ k n σ xs pc lv (.int (iz b) :: .int (iz a) :: st) := fun H locs ls hP hD hS hv => lv_idiv X.hx X.hb d (fun q => by have := (iz_eq0 hg.2.1).mp q; omega) (by rw [iz_div hg.1 hg.2.1 hg.2.2.1 hg.2.2.2]; exact h H locs ls hP hD hS hv)
theorem z_irem (X : ZX Γ cc own fr lo) (d : decode cc pc = .ok (.irem, 1)) (hg : InR a ∧ InR b ∧ 0 ≤ a ∧ 0 < b) (h : Z Γ k n σ xs (pc + 1) lv (.int (iz (a % b)) :: st)) : Z Γ k n σ xs pc lv (.int (iz b) :: .int (iz a) :: st) := fun H locs ls hP hD hS hv => lv_irem X.hx X.hb d (fun q => by have := (iz_eq0 hg.2.1).mp q; omega) (by rw [iz_rem hg.1 hg.2.1 hg.2.2.1 hg.2.2.2]; exact h H locs ls hP hD hS hv)
theorem z_dup (X : ZX Γ cc own fr lo) {v : Value} (d : decode cc pc = .ok (.dup, 1)) (hv0 : v.category = 1) (h : Z Γ k n σ xs (pc + 1) lv (v :: v :: st)) : Z Γ k n σ xs pc lv (v :: st) := fun H locs ls hP hD hS hv => lv_dup X.hx X.hb d hv0 (h H locs ls hP hD hS hv)
theorem z_dup_x1 (X : ZX Γ cc own fr lo) {v w : Value} (d : decode cc pc = .ok (.dup_x1, 1)) (hv0 : v.category = 1) (hw0 : w.category = 1) (h : Z Γ k n σ xs (pc + 1) lv (v :: w :: v :: st)) : Z Γ k n σ xs pc lv (v :: w :: st) := fun H locs ls hP hD hS hv => lv_dup_x1 X.hx X.hb d hv0 hw0 (h H locs ls hP hD hS hv)
theorem z_dup2 (X : ZX Γ cc own fr lo) {v w : Value} (d : decode cc pc = .ok (.dup2, 1)) (hv0 : v.category = 1) (hw0 : w.category = 1) (h : Z Γ k n σ xs (pc + 1) lv (v :: w :: v :: w :: st)) : Z Γ k n σ xs pc lv (v :: w :: st) := fun H locs ls hP hD hS hv => lv_dup2_11 X.hx X.hb d hv0 hw0 (h H locs ls hP hD hS hv)
theorem z_pop (X : ZX Γ cc own fr lo) {v : Value} (d : decode cc pc = .ok (.pop, 1)) (hv0 : v.category = 1) (h : Z Γ k n σ xs (pc + 1) lv st) : Z Γ k n σ xs pc lv (v :: st) := fun H locs ls hP hD hS hv => lv_pop X.hx X.hb d hv0 (h H locs ls hP hD hS hv)
theorem z_goto (X : ZX Γ cc own fr lo) {off : Int} {tgt : Nat} (d : decode cc pc = .ok (.goto off, 3)) (ht : (pc : Int) + off = (tgt : Int)) (h : Z Γ k n σ xs tgt lv st) : Z Γ k n σ xs pc lv st := fun H locs ls hP hD hS hv => lv_goto X.hx X.hb d ht (h H locs ls hP hD hS hv)
theorem z_icmp_eq (X : ZX Γ cc own fr lo) {off : Int} (tgt : Nat) (d : decode cc pc = .ok (.if_icmp .eq off, 3)) (ht : (pc : Int) + off = (tgt : Int)) (hA : InR a) (hB : InR b) (kt : a = b → Z Γ k n σ xs tgt lv st) (kf : ¬ a = b → Z Γ k n σ xs (pc + 3) lv st) : Z Γ k n σ xs pc lv (.int (iz b) :: .int (iz a) :: st) := fun H locs ls hP hD hS hv => lv_icmp_eq X.hx X.hb d ht (fun q => kt ((iz_eq hA hB).mp q) H locs ls hP hD hS hv) (fun q => kf (fun r => q ((iz_eq hA hB).mpr r)) H locs ls hP hD hS hv)
theorem z_if_eq (X : ZX Γ cc own fr lo) {off : Int} (tgt : Nat) (d : decode cc pc = .ok (.ifCond .eq off, 3)) (ht : (pc : Int) + off = (tgt : Int)) (hA : InR a) (kt : a = 0 → Z Γ k n σ xs tgt lv st) (kf : ¬ a = 0 → Z Γ k n σ xs (pc + 3) lv st) : Z Γ k n σ xs pc lv (.int (iz a) :: st) := fun H locs ls hP hD hS hv => lv_if_eq X.hx X.hb d ht (fun q => kt ((iz_eq hA InR0).mp q) H locs ls hP hD hS hv) (fun q => kf (fun r => q ((iz_eq hA InR0).mpr r)) H locs ls hP hD hS hv)
theorem z_icmp_ne (X : ZX Γ cc own fr lo) {off : Int} (tgt : Nat) (d : decode cc pc = .ok (.if_icmp .ne off, 3)) (ht : (pc : Int) + off = (tgt : Int)) (hA : InR a) (hB : InR b) (kt : ¬ a = b → Z Γ k n σ xs tgt lv st) (kf : a = b → Z Γ k n σ xs (pc + 3) lv st) : Z Γ k n σ xs pc lv (.int (iz b) :: .int (iz a) :: st) := fun H locs ls hP hD hS hv => lv_icmp_ne X.hx X.hb d ht (fun q => kt (fun r => q ((iz_eq hA hB).mpr r)) H locs ls hP hD hS hv) (fun q => kf ((iz_eq hA hB).mp q) H locs ls hP hD hS hv)
theorem z_if_ne (X : ZX Γ cc own fr lo) {off : Int} (tgt : Nat) (d : decode cc pc = .ok (.ifCond .ne off, 3)) (ht : (pc : Int) + off = (tgt : Int)) (hA : InR a) (kt : ¬ a = 0 → Z Γ k n σ xs tgt lv st) (kf : a = 0 → Z Γ k n σ xs (pc + 3) lv st) : Z Γ k n σ xs pc lv (.int (iz a) :: st) := fun H locs ls hP hD hS hv => lv_if_ne X.hx X.hb d ht (fun q => kt (fun r => q ((iz_eq hA InR0).mpr r)) H locs ls hP hD hS hv) (fun q => kf ((iz_eq hA InR0).mp q) H locs ls hP hD hS hv)
theorem z_icmp_lt (X : ZX Γ cc own fr lo) {off : Int} (tgt : Nat) (d : decode cc pc = .ok (.if_icmp .lt off, 3)) (ht : (pc : Int) + off = (tgt : Int)) (hA : InR a) (hB : InR b) (kt : a < b → Z Γ k n σ xs tgt lv st) (kf : b ≤ a → Z Γ k n σ xs (pc + 3) lv st) : Z Γ k n σ xs pc lv (.int (iz b) :: .int (iz a) :: st) := fun H locs ls hP hD hS hv => lv_icmp_lt X.hx X.hb d ht (fun q => kt ((iz_lt hA hB).mp q) H locs ls hP hD hS hv) (fun q => kf (Int.not_lt.mp (fun r => q ((iz_lt hA hB).mpr r))) H locs ls hP hD hS hv)
theorem z_if_lt (X : ZX Γ cc own fr lo) {off : Int} (tgt : Nat) (d : decode cc pc = .ok (.ifCond .lt off, 3)) (ht : (pc : Int) + off = (tgt : Int)) (hA : InR a) (kt : a < 0 → Z Γ k n σ xs tgt lv st) (kf : 0 ≤ a → Z Γ k n σ xs (pc + 3) lv st) : Z Γ k n σ xs pc lv (.int (iz a) :: st) := fun H locs ls hP hD hS hv => lv_if_lt X.hx X.hb d ht (fun q => kt ((iz_lt hA InR0).mp q) H locs ls hP hD hS hv) (fun q => kf (Int.not_lt.mp (fun r => q ((iz_lt hA InR0).mpr r))) H locs ls hP hD hS hv)
theorem z_icmp_ge (X : ZX Γ cc own fr lo) {off : Int} (tgt : Nat) (d : decode cc pc = .ok (.if_icmp .ge off, 3)) (ht : (pc : Int) + off = (tgt : Int)) (hA : InR a) (hB : InR b) (kt : b ≤ a → Z Γ k n σ xs tgt lv st) (kf : a < b → Z Γ k n σ xs (pc + 3) lv st) : Z Γ k n σ xs pc lv (.int (iz b) :: .int (iz a) :: st) := fun H locs ls hP hD hS hv => lv_icmp_ge X.hx X.hb d ht (fun q => kt ((iz_le hB hA).mp q) H locs ls hP hD hS hv) (fun q => kf (Int.not_le.mp (fun r => q ((iz_le hB hA).mpr r))) H locs ls hP hD hS hv)
theorem z_if_ge (X : ZX Γ cc own fr lo) {off : Int} (tgt : Nat) (d : decode cc pc = .ok (.ifCond .ge off, 3)) (ht : (pc : Int) + off = (tgt : Int)) (hA : InR a) (kt : 0 ≤ a → Z Γ k n σ xs tgt lv st) (kf : a < 0 → Z Γ k n σ xs (pc + 3) lv st) : Z Γ k n σ xs pc lv (.int (iz a) :: st) := fun H locs ls hP hD hS hv => lv_if_ge X.hx X.hb d ht (fun q => kt ((iz_le InR0 hA).mp q) H locs ls hP hD hS hv) (fun q => kf (Int.not_le.mp (fun r => q ((iz_le InR0 hA).mpr r))) H locs ls hP hD hS hv)
theorem z_icmp_gt (X : ZX Γ cc own fr lo) {off : Int} (tgt : Nat) (d : decode cc pc = .ok (.if_icmp .gt off, 3)) (ht : (pc : Int) + off = (tgt : Int)) (hA : InR a) (hB : InR b) (kt : b < a → Z Γ k n σ xs tgt lv st) (kf : a ≤ b → Z Γ k n σ xs (pc + 3) lv st) : Z Γ k n σ xs pc lv (.int (iz b) :: .int (iz a) :: st) := fun H locs ls hP hD hS hv => lv_icmp_gt X.hx X.hb d ht (fun q => kt ((iz_lt hB hA).mp q) H locs ls hP hD hS hv) (fun q => kf (Int.not_lt.mp (fun r => q ((iz_lt hB hA).mpr r))) H locs ls hP hD hS hv)
theorem z_if_gt (X : ZX Γ cc own fr lo) {off : Int} (tgt : Nat) (d : decode cc pc = .ok (.ifCond .gt off, 3)) (ht : (pc : Int) + off = (tgt : Int)) (hA : InR a) (kt : 0 < a → Z Γ k n σ xs tgt lv st) (kf : a ≤ 0 → Z Γ k n σ xs (pc + 3) lv st) : Z Γ k n σ xs pc lv (.int (iz a) :: st) := fun H locs ls hP hD hS hv => lv_if_gt X.hx X.hb d ht (fun q => kt ((iz_lt InR0 hA).mp q) H locs ls hP hD hS hv) (fun q => kf (Int.not_lt.mp (fun r => q ((iz_lt InR0 hA).mpr r))) H locs ls hP hD hS hv)
theorem z_icmp_le (X : ZX Γ cc own fr lo) {off : Int} (tgt : Nat) (d : decode cc pc = .ok (.if_icmp .le off, 3)) (ht : (pc : Int) + off = (tgt : Int)) (hA : InR a) (hB : InR b) (kt : a ≤ b → Z Γ k n σ xs tgt lv st) (kf : b < a → Z Γ k n σ xs (pc + 3) lv st) : Z Γ k n σ xs pc lv (.int (iz b) :: .int (iz a) :: st) := fun H locs ls hP hD hS hv => lv_icmp_le X.hx X.hb d ht (fun q => kt ((iz_le hA hB).mp q) H locs ls hP hD hS hv) (fun q => kf (Int.not_le.mp (fun r => q ((iz_le hA hB).mpr r))) H locs ls hP hD hS hv)
theorem z_if_le (X : ZX Γ cc own fr lo) {off : Int} (tgt : Nat) (d : decode cc pc = .ok (.ifCond .le off, 3)) (ht : (pc : Int) + off = (tgt : Int)) (hA : InR a) (kt : a ≤ 0 → Z Γ k n σ xs tgt lv st) (kf : 0 < a → Z Γ k n σ xs (pc + 3) lv st) : Z Γ k n σ xs pc lv (.int (iz a) :: st) := fun H locs ls hP hD hS hv => lv_if_le X.hx X.hb d ht (fun q => kt ((iz_le hA InR0).mp q) H locs ls hP hD hS hv) (fun q => kf (Int.not_le.mp (fun r => q ((iz_le hA InR0).mpr r))) H locs ls hP hD hS hv)
theorem z_swOut (X : ZX Γ cc own fr lo) {dflt l0 h0 : Int} {offs : Array Int} {len : Nat} (tgt : Nat) (d : decode cc pc = .ok (.tableswitch dflt l0 h0 offs, len)) (hA : InR a) (h : a < l0 ∨ h0 < a) (ht : (pc : Int) + dflt = (tgt : Int)) (kk : Z Γ k n σ xs tgt lv st) : Z Γ k n σ xs pc lv (.int (iz a) :: st) := fun H locs ls hP hD hS hv => lv_tableOut X.hx X.hb d (by rw [iz_toInt hA]; exact h) ht (kk H locs ls hP hD hS hv)
theorem z_swIn (X : ZX Γ cc own fr lo) {dflt l0 h0 : Int} {offs : Array Int} {len : Nat} {off : Int} (v : Int) (tgt : Nat) (d : decode cc pc = .ok (.tableswitch dflt l0 h0 offs, len)) (h : a = v) (hA : InR v) (h1 : ¬ v < l0) (h2 : ¬ h0 < v) (ho : offs[(v - l0).toNat]? = some off) (ht : (pc : Int) + off = (tgt : Int)) (kk : Z Γ k n σ xs tgt lv st) : Z Γ k n σ xs pc lv (.int (iz a) :: st) := fun H locs ls hP hD hS hv => by
  subst h
  exact lv_tableIn X.hx X.hb d (by rw [iz_toInt hA]; exact h1) (by rw [iz_toInt hA]; exact h2) (by rw [iz_toInt hA]; exact ho) ht (kk H locs ls hP hD hS hv)
/-! cells -/
theorem zE_arr {tys : List (ClassId × FieldType)} {ad : Nat → Nat} {c : ZC} {f : Int → Int} {t0 N0 : Nat} {ty : FieldType} (hL : c = .inr (.inl (t0, N0))) (ht : (tys[t0]?).map (fun q => q.2) = some ty) : ∃ cA, tys[t0]? = some (cA, ty) ∧ zE tys ad c f = .inl (cA, N0, .inl fun j => iz (f (j : Int))) := by
  subst hL
  cases h : tys[t0]? with
  | none => rw [h] at ht; cases ht
  | some z =>
    obtain ⟨cA, ty'⟩ := z
    rw [h] at ht
    cases ht
    exact ⟨cA, rfl, by simp [zE, List.getD, h]⟩
theorem z_upd_row {f : Int → Int} {i v : Int} {N0 : Nat} (h0 : 0 ≤ i) (h1 : i < N0) (hn : N0 < 2147483648) : upd (fun j : Nat => iz (f (j : Int))) (iz i).toNatClampNeg (iz v) = fun j : Nat => iz ((fun i' => if i' = i then v else f i') (j : Int)) := by
  rw [iz_clamp h0 h1 hn]
  funext j
  by_cases hj : j = i.toNat
  · have : (j : Int) = i := by omega
    simp [upd, hj, Int.toNat_of_nonneg h0]
  · have : ¬ (j : Int) = i := by omega
    simp [upd, hj, this]
theorem zst_fun (σ : ZS) (q : Nat) (i v : Int) : zst σ q i v q = fun i' => if i' = i then v else σ q i' := funext fun i' => zst_at σ q i v i'
theorem z_ald (X : ZX Γ cc own fr lo) {t0 N0 : Nat} (q : Nat) (hq : q < zt_N (zg_T Γ)) (hL : zt_L (zg_T Γ) q = .inr (.inl (t0, N0))) (ht : ((zt_ty (zg_T Γ))[t0]?).map (fun q => q.2) = some .int) (hn : N0 < 2147483648) {i : Int} (d : decode cc pc = .ok (.iaload, 1)) (hi : 0 ≤ i ∧ i < (N0 : Int)) (h : Z Γ k n σ xs (pc + 1) lv (.int (iz (σ q i)) :: st)) : Z Γ k n σ xs pc lv (.int (iz i) :: .ref (zt_ad (zg_T Γ) q) :: st) := fun H locs ls hP hD hS hv => by
  obtain ⟨cA, h1, h2⟩ := zE_arr (f := σ q) (ad := zt_ad (zg_T Γ)) hL ht
  have hg := zw_get (tys := zt_ty (zg_T Γ)) (ad := zt_ad (zg_T Γ)) (L := zt_L (zg_T Γ)) (σ := σ) (xs := xs) hq
  rw [h2] at hg
  refine va_iald X.hx X.hb X.hK hP q t0 hg h1 (iz_vp_in hi.1 hi.2 hn) d ?_
  rw [iz_clamp hi.1 hi.2 hn, show ((i.toNat : Nat) : Int) = i from Int.toNat_of_nonneg hi.1]
  exact h H locs ls hP hD hS hv
theorem z_ast (X : ZX Γ cc own fr lo) {t0 N0 : Nat} (q : Nat) (hq : q < zt_N (zg_T Γ)) (hL : zt_L (zg_T Γ) q = .inr (.inl (t0, N0))) (ht : ((zt_ty (zg_T Γ))[t0]?).map (fun q => q.2) = some .int) (hn : N0 < 2147483648) {i v : Int} (d : decode cc pc = .ok (.iastore, 1)) (hi : 0 ≤ i ∧ i < (N0 : Int)) (h : ∀ σ', σ' = zst σ q i v → Z Γ k n σ' xs (pc + 1) lv st) : Z Γ k n σ xs pc lv (.int (iz v) :: .int (iz i) :: .ref (zt_ad (zg_T Γ) q) :: st) := fun H locs ls hP hD hS hv => by
  obtain ⟨cA, h1, h2⟩ := zE_arr (f := σ q) (ad := zt_ad (zg_T Γ)) hL ht
  obtain ⟨cA', h1', h2'⟩ := zE_arr (f := zst σ q i v q) (ad := zt_ad (zg_T Γ)) hL ht
  cases h1.symm.trans h1'
  have hg := zw_get (tys := zt_ty (zg_T Γ)) (ad := zt_ad (zg_T Γ)) (L := zt_L (zg_T Γ)) (σ := σ) (xs := xs) hq
  rw [h2] at hg
  have hs := zw_set (tys := zt_ty (zg_T Γ)) (ad := zt_ad (zg_T Γ)) (L := zt_L (zg_T Γ)) (σ := σ) (σ' := zst σ q i v) (xs := xs) hq (fun q' hq' => zst_row hq')
  rw [h2', zst_fun] at hs
  refine va_iast X.hx X.hb X.hK hP hD hS q t0 hg h1 (iz_vp_in hi.1 hi.2 hn) d (fun H1 locs1 hP1 hD1 hS1 => ?_)
  rw [z_upd_row hi.1 hi.2 hn] at hP1 hD1
  have e : zt_W (zg_T Γ) (zst σ q i v) xs = _ := hs.symm
  exact h _ rfl H1 locs1 ls (by rw [e]; exact hP1) (by rw [e]; exact hD1) hS1 hv
theorem z_aldB (X : ZX Γ cc own fr lo) {t0 N0 : Nat} (q : Nat) (hq : q < zt_N (zg_T Γ)) (hL : zt_L (zg_T Γ) q = .inr (.inl (t0, N0))) (ht : ((zt_ty (zg_T Γ))[t0]?).map (fun q => q.2) = some .byte) (hn : N0 < 2147483648) {i : Int} (d : decode cc pc = .ok (.baload, 1)) (hi : 0 ≤ i ∧ i < (N0 : Int)) (h : Z Γ k n σ xs (pc + 1) lv (.int (iz (σ q i)) :: st)) : Z Γ k n σ xs pc lv (.int (iz i) :: .ref (zt_ad (zg_T Γ) q) :: st) := fun H locs ls hP hD hS hv => by
  obtain ⟨cA, h1, h2⟩ := zE_arr (f := σ q) (ad := zt_ad (zg_T Γ)) hL ht
  have hg := zw_get (tys := zt_ty (zg_T Γ)) (ad := zt_ad (zg_T Γ)) (L := zt_L (zg_T Γ)) (σ := σ) (xs := xs) hq
  rw [h2] at hg
  refine va_bald X.hx X.hb X.hK hP q t0 hg h1 (iz_vp_in hi.1 hi.2 hn) d ?_
  rw [iz_clamp hi.1 hi.2 hn, show ((i.toNat : Nat) : Int) = i from Int.toNat_of_nonneg hi.1]
  exact h H locs ls hP hD hS hv
theorem z_aldZ (X : ZX Γ cc own fr lo) {t0 N0 : Nat} (q : Nat) (hq : q < zt_N (zg_T Γ)) (hL : zt_L (zg_T Γ) q = .inr (.inl (t0, N0))) (ht : ((zt_ty (zg_T Γ))[t0]?).map (fun q => q.2) = some .boolean) (hn : N0 < 2147483648) {i : Int} (d : decode cc pc = .ok (.baload, 1)) (hi : 0 ≤ i ∧ i < (N0 : Int)) (h : Z Γ k n σ xs (pc + 1) lv (.int (iz (σ q i)) :: st)) : Z Γ k n σ xs pc lv (.int (iz i) :: .ref (zt_ad (zg_T Γ) q) :: st) := fun H locs ls hP hD hS hv => by
  obtain ⟨cA, h1, h2⟩ := zE_arr (f := σ q) (ad := zt_ad (zg_T Γ)) hL ht
  have hg := zw_get (tys := zt_ty (zg_T Γ)) (ad := zt_ad (zg_T Γ)) (L := zt_L (zg_T Γ)) (σ := σ) (xs := xs) hq
  rw [h2] at hg
  refine va_zald X.hx X.hb X.hK hP q t0 hg h1 (iz_vp_in hi.1 hi.2 hn) d ?_
  rw [iz_clamp hi.1 hi.2 hn, show ((i.toNat : Nat) : Int) = i from Int.toNat_of_nonneg hi.1]
  exact h H locs ls hP hD hS hv
theorem z_nar_bool {v : Int} (hv : v = 0 ∨ v = 1) : vp_nar .boolean (iz v) = iz v := by rcases hv with rfl | rfl <;> decide
theorem z_astZ (X : ZX Γ cc own fr lo) {t0 N0 : Nat} (q : Nat) (hq : q < zt_N (zg_T Γ)) (hL : zt_L (zg_T Γ) q = .inr (.inl (t0, N0))) (ht : ((zt_ty (zg_T Γ))[t0]?).map (fun q => q.2) = some .boolean) (hn : N0 < 2147483648) {i v : Int} (d : decode cc pc = .ok (.bastore, 1)) (hi : 0 ≤ i ∧ i < (N0 : Int)) (hb : v = 0 ∨ v = 1) (h : ∀ σ', σ' = zst σ q i v → Z Γ k n σ' xs (pc + 1) lv st) : Z Γ k n σ xs pc lv (.int (iz v) :: .int (iz i) :: .ref (zt_ad (zg_T Γ) q) :: st) := fun H locs ls hP hD hS hv => by
  obtain ⟨cA, h1, h2⟩ := zE_arr (f := σ q) (ad := zt_ad (zg_T Γ)) hL ht
  obtain ⟨cA', h1', h2'⟩ := zE_arr (f := zst σ q i v q) (ad := zt_ad (zg_T Γ)) hL ht
  cases h1.symm.trans h1'
  have hg := zw_get (tys := zt_ty (zg_T Γ)) (ad := zt_ad (zg_T Γ)) (L := zt_L (zg_T Γ)) (σ := σ) (xs := xs) hq
  rw [h2] at hg
  have hs := zw_set (tys := zt_ty (zg_T Γ)) (ad := zt_ad (zg_T Γ)) (L := zt_L (zg_T Γ)) (σ := σ) (σ' := zst σ q i v) (xs := xs) hq (fun q' hq' => zst_row hq')
  rw [h2', zst_fun] at hs
  refine va_zast X.hx X.hb X.hK hP hD hS q t0 hg h1 (iz_vp_in hi.1 hi.2 hn) d (fun H1 locs1 hP1 hD1 hS1 => ?_)
  rw [z_nar_bool hb, z_upd_row hi.1 hi.2 hn] at hP1 hD1
  have e : zt_W (zg_T Γ) (zst σ q i v) xs = _ := hs.symm
  exact h _ rfl H1 locs1 ls (by rw [e]; exact hP1) (by rw [e]; exact hD1) hS1 hv
theorem z_astB (X : ZX Γ cc own fr lo) {t0 N0 : Nat} (q : Nat) (hq : q < zt_N (zg_T Γ)) (hL : zt_L (zg_T Γ) q = .inr (.inl (t0, N0))) (ht : ((zt_ty (zg_T Γ))[t0]?).map (fun q => q.2) = some .byte) (hn : N0 < 2147483648) {i v : Int} (d : decode cc pc = .ok (.bastore, 1)) (hi : 0 ≤ i ∧ i < (N0 : Int)) (hb : vp_nar .byte (iz v) = iz v) (h : ∀ σ', σ' = zst σ q i v → Z Γ k n σ' xs (pc + 1) lv st) : Z Γ k n σ xs pc lv (.int (iz v) :: .int (iz i) :: .ref (zt_ad (zg_T Γ) q) :: st) := fun H locs ls hP hD hS hv => by
  obtain ⟨cA, h1, h2⟩ := zE_arr (f := σ q) (ad := zt_ad (zg_T Γ)) hL ht
  obtain ⟨cA', h1', h2'⟩ := zE_arr (f := zst σ q i v q) (ad := zt_ad (zg_T Γ)) hL ht
  cases h1.symm.trans h1'
  have hg := zw_get (tys := zt_ty (zg_T Γ)) (ad := zt_ad (zg_T Γ)) (L := zt_L (zg_T Γ)) (σ := σ) (xs := xs) hq
  rw [h2] at hg
  have hs := zw_set (tys := zt_ty (zg_T Γ)) (ad := zt_ad (zg_T Γ)) (L := zt_L (zg_T Γ)) (σ := σ) (σ' := zst σ q i v) (xs := xs) hq (fun q' hq' => zst_row hq')
  rw [h2', zst_fun] at hs
  refine va_bast X.hx X.hb X.hK hP hD hS q t0 hg h1 (iz_vp_in hi.1 hi.2 hn) d (fun H1 locs1 hP1 hD1 hS1 => ?_)
  rw [hb, z_upd_row hi.1 hi.2 hn] at hP1 hD1
  have e : zt_W (zg_T Γ) (zst σ q i v) xs = _ := hs.symm
  exact h _ rfl H1 locs1 ls (by rw [e]; exact hP1) (by rw [e]; exact hD1) hS1 hv
theorem z_get (X : ZX Γ cc own fr lo) {ref C : String} {T : u_T} {N0 ci index : Nat} {ks : List Nat} (hin : ∀ w ∈ u_ws C T N0, w ∈ lw_all) (q : Nat) (hq : q < zt_N (zg_T Γ)) (hL : zt_L (zg_T Γ) q = .inl (ci, ks)) (hc : (zt_cl (zg_T Γ))[ci]? = some (C, T, N0)) (j : Nat) (hj : j < N0) (hlink : Cond.fieldLink own index ref (T j).2.1 (T j).2.2.1 ∈ lw_all) (hsame : ∀ x, (zg_s Γ).fieldFound? (T j).1 (T j).2.1 (T j).2.2.1 = some x → (zg_s Γ).fieldFound? ref (T j).2.1 (T j).2.2.1 = some x) {kd : Nat} (hkd : ks[j]? = some kd) (d : decode cc pc = .ok (.getfield index, 3)) (h : Z Γ k n σ xs (pc + 3) lv (zval (zt_ad (zg_T Γ)) kd (σ q (j : Int)) :: st)) : Z Γ k n σ xs pc lv (.ref (zt_ad (zg_T Γ) q) :: st) := fun H locs ls hP hD hS hv => by
  have hg := zw_get (tys := zt_ty (zg_T Γ)) (ad := zt_ad (zg_T Γ)) (L := zt_L (zg_T Γ)) (σ := σ) (xs := xs) hq
  rw [hL] at hg
  exact va_get X.hx X.hb X.hts hin X.hown X.hK hP q hg hc j hj (X.hts _ hlink) hsame (zfs_get hkd) d (h H locs ls hP hD hS hv)
theorem z_put (X : ZX Γ cc own fr lo) {ref C : String} {T : u_T} {N0 ci index : Nat} {ks : List Nat} (hin : ∀ w ∈ u_ws C T N0, w ∈ lw_all) (ty0 : Nat → FieldType) (hty : ∀ k, k < N0 → parseFieldDescriptor (T k).2.2.1 = some (ty0 k)) (hnm : ∀ a, a < N0 → ∀ b, b < N0 → a ≠ b → (T a).2.1 ≠ (T b).2.1) (q : Nat) (hq : q < zt_N (zg_T Γ)) (hL : zt_L (zg_T Γ) q = .inl (ci, ks)) (hc : (zt_cl (zg_T Γ))[ci]? = some (C, T, N0)) (j : Nat) (hj : j < N0) (hlink : Cond.fieldLink own index ref (T j).2.1 (T j).2.2.1 ∈ lw_all) (hsame : ∀ x, (zg_s Γ).fieldFound? (T j).1 (T j).2.1 (T j).2.2.1 = some x → (zg_s Γ).fieldFound? ref (T j).2.1 (T j).2.2.1 = some x) (hfin : (T j).2.2.2 = false) {ty : FieldType} {v : Int} {kd : Nat} (hd : parseFieldDescriptor (T j).2.2.1 = some ty) (hnr : narrow ty (zval (zt_ad (zg_T Γ)) kd v) = zval (zt_ad (zg_T Γ)) kd v) (hfit : fits ty (zval (zt_ad (zg_T Γ)) kd v) = true) (hkd : ks[j]? = some kd) (d : decode cc pc = .ok (.putfield index, 3)) (h : ∀ σ', σ' = zst σ q (j : Int) v → Z Γ k n σ' xs (pc + 3) lv st) : Z Γ k n σ xs pc lv (zval (zt_ad (zg_T Γ)) kd v :: .ref (zt_ad (zg_T Γ) q) :: st) := fun H locs ls hP hD hS hv => by
  have hg := zw_get (tys := zt_ty (zg_T Γ)) (ad := zt_ad (zg_T Γ)) (L := zt_L (zg_T Γ)) (σ := σ) (xs := xs) hq
  rw [hL] at hg
  have hs := zw_set (tys := zt_ty (zg_T Γ)) (ad := zt_ad (zg_T Γ)) (L := zt_L (zg_T Γ)) (σ := σ) (σ' := zst σ q (j : Int) v) (xs := xs) hq (fun q' hq' => zst_row hq')
  rw [hL, zst_fun] at hs
  refine va_put X.hx X.hb X.hts hin ty0 hty hnm X.hown X.hK hP hD hS q hg hc j hj (X.hts _ hlink) hsame hfin hd hnr hfit (by rw [zfs_len]; exact (List.getElem?_eq_some_iff.mp hkd).1) d (fun H1 locs1 hP1 hD1 hS1 => ?_)
  rw [zfs_set hkd] at hP1 hD1
  have e : zt_W (zg_T Γ) (zst σ q (j : Int) v) xs = _ := hs.symm
  exact h _ rfl H1 locs1 ls (by rw [e]; exact hP1) (by rw [e]; exact hD1) hS1 hv
end ZROWS
/-! contracts: from the state σ the method comes back with an answer and a state of which post holds -/
def zt_own (Θ : ZTh) (sz : Nat) : Nat → Prop := fun q => (∃ i : Nat, i < zt_N Θ ∧ q = zt_ad Θ i) ∨ sz ≤ q
def zPre (Θ : ZTh) (sz : Nat) (σ : ZS) (av : List Value) : Array Value → State → Prop := va_Pc av (fun U => U.heap.size = sz ∧ va_P (zt_D Θ) (zt_cl Θ) (zt_W Θ σ []) U.heap ∧ va_K (zt_D Θ) (zt_cl Θ) (zt_ty Θ) U ∧ va_D (fun _ => True) (zt_W Θ σ []) ∧ zNw U ∧ zSt (zt_own Θ sz) U U.heap)
def zB (Θ : ZTh) (σ : ZS) (t : State) : Prop := va_P (zt_D Θ) (zt_cl Θ) (zt_W Θ σ []) t.heap
def ZMetI (l : Launch) (Θ : ZTh) (y : MethodName) (code : ByteArray) (nL : Nat) (ret : FieldType) (fr lo mc ms : Nat) (av : List Value) (σ : ZS) (post : Int → ZS → Prop) : Prop :=
  ∀ sz : Nat, Met l y (ws_ y code nL (some ret)) { frames := fr, cells := mc, slots := ms, locals := lo } (zPre Θ sz σ av) (va_Qi (fun (r : Int32) (σ' : ZS) => ∃ x : Int, r = iz x ∧ post x σ') (zB Θ) (zt_own Θ sz)) mc ms (zt_own Θ sz)
def ZMetV (l : Launch) (Θ : ZTh) (y : MethodName) (code : ByteArray) (nL : Nat) (fr lo mc ms : Nat) (av : List Value) (σ : ZS) (post : ZS → Prop) : Prop :=
  ∀ sz : Nat, Met l y (ws_ y code nL none) { frames := fr, cells := mc, slots := ms, locals := lo } (zPre Θ sz σ av) (va_Qv (fun (σ' : ZS) => post σ') (zB Θ) (zt_own Θ sz)) mc ms (zt_own Θ sz)
theorem zPre_blind {Θ : ZTh} {sz : Nat} {σ : ZS} {av : List Value} : FrameBlind (zPre Θ sz σ av) := fun a U g mk q => by
  obtain ⟨q0, q1, qP, qK, qD, qN, qS⟩ := q
  exact ⟨q0, q1, qP, va_K.moved (u := U) (U := U.calling g mk a) (Vm.Alike.refl U.vm) qK, qD, zNw.same (u := U) (U := U.calling g mk a) rfl qN, ⟨qS.1.moved (u := U) (U := U.calling g mk a) (Vm.Alike.refl U.vm), qS.2.moved (u := U) (U := U.calling g mk a) (Vm.Alike.refl U.vm)⟩⟩
theorem zw_len {tys : List (ClassId × FieldType)} {ad : Nat → Nat} {L : Nat → ZC} {N : Nat} {σ : ZS} : (zw tys ad L N σ).length = N := by simp [zw]
theorem zt_at {Θ : ZTh} {σ : ZS} {xs : va_W} {i : Nat} (h : i < zt_N Θ) : (zt_W Θ σ xs)[i]? = some (zt_ad Θ i, zE (zt_ty Θ) (zt_ad Θ) (zt_L Θ i) (σ i)) := zw_get h
theorem zt_ge {Θ : ZTh} {σ : ZS} {xs : va_W} {i : Nat} (h : zt_N Θ ≤ i) : (zt_W Θ σ xs)[i]? = xs[i - zt_N Θ]? := by
  unfold zt_W
  rw [List.getElem?_append_right (by rw [zw_len]; exact h), zw_len]
theorem zt_nil {Θ : ZTh} {σ : ZS} {i : Nat} {q : Nat × va_E} (h : (zt_W Θ σ [])[i]? = some q) : i < zt_N Θ ∧ q.1 = zt_ad Θ i := by
  rcases Nat.lt_or_ge i (zt_N Θ) with hi | hi
  · rw [zt_at hi] at h
    cases h
    exact ⟨hi, rfl⟩
  · rw [zt_ge hi] at h
    cases h
/-- the addresses alone say that cells are apart -/
theorem zt_D_any {A : Nat → Prop} {Θ : ZTh} {σ σ' : ZS} {xs : va_W} (h : va_D A (zt_W Θ σ xs)) : va_D A (zt_W Θ σ' xs) := by
  have key : ∀ (i : Nat) (q : Nat × va_E), (zt_W Θ σ' xs)[i]? = some q → ∃ q', (zt_W Θ σ xs)[i]? = some q' ∧ q'.1 = q.1 := by
    intro i q hk
    rcases Nat.lt_or_ge i (zt_N Θ) with hi | hi
    · rw [zt_at hi] at hk
      cases hk
      exact ⟨_, zt_at hi, rfl⟩
    · rw [zt_ge hi] at hk
      exact ⟨q, by rw [zt_ge hi]; exact hk, rfl⟩
  refine ⟨fun i j p q hi hj hpq => ?_, fun i q hi => ?_⟩
  · obtain ⟨p', h1, e1⟩ := key i p hi
    obtain ⟨q', h2, e2⟩ := key j q hj
    exact h.1 i j p' q' h1 h2 (by rw [e1, e2]; exact hpq)
  · obtain ⟨q', h1, e1⟩ := key i q hi
    rw [← e1]
    exact h.2 i q' h1
theorem zt_D_nil {A : Nat → Prop} {Θ : ZTh} {σ : ZS} {xs : va_W} (h : va_D A (zt_W Θ σ xs)) : va_D (fun _ => True) (zt_W Θ σ []) := by
  have key : ∀ (i : Nat) (q : Nat × va_E), (zt_W Θ σ [])[i]? = some q → (zt_W Θ σ xs)[i]? = some q := by
    intro i q hk
    have hi := (zt_nil hk).1
    rw [zt_at hi] at hk
    rw [zt_at hi]
    exact hk
  exact ⟨fun i j p q hi hj hpq => h.1 i j p q (key i p hi) (key j q hj) hpq, fun _ _ _ => trivial⟩
theorem zt_P_nil {D : va_G} {cl : List vw_C} {Θ : ZTh} {σ : ZS} {xs : va_W} {H : Heap} (h : va_P D cl (zt_W Θ σ xs) H) : va_P D cl (zt_W Θ σ []) H := by
  intro i q hk
  have hi := (zt_nil hk).1
  rw [zt_at hi] at hk
  exact h i q (by rw [zt_at hi]; exact hk)
theorem zt_own_in {A : Nat → Prop} {Θ : ZTh} {σ : ZS} {xs : va_W} {H0 H : Heap} {locs : List Loc} (h : va_D A (zt_W Θ σ xs)) (hS : va_S A H0 H locs) (hA : ∀ q, H0.size ≤ q → A q) : ∀ q, zt_own Θ H.size q → A q := by
  rintro q (⟨i, hi, rfl⟩ | hq)
  · exact h.2 i _ (zt_at hi)
  · exact hA q (Nat.le_trans hS.1 hq)
section ZCALL
variable {Γ : ZG} {cc : ByteArray} {own : String} {fr lo : Nat} {k n : Nat} {σ : ZS} {xs : va_W} {pc : Nat} {lv : List (Nat × Value)} {st : List Value}
theorem zx_fix (X : ZX Γ cc own fr lo) : CallFix (zg_p Γ) (zg_m Γ) (zg_c Γ) cc (zg_n Γ) (zg_s Γ) (zg_a Γ) lw_all own := ⟨X.hx, X.hb, X.hml, X.hown, X.hts⟩
/-- behind a call over the fixed world: the world again, the cells beside it as they were -/
theorem z_back {H H1 : Heap} {σ' : ZS} {t : State} (hP : va_P (zt_D (zg_T Γ)) (zt_cl (zg_T Γ)) (zt_W (zg_T Γ) σ xs) H) (hD : va_D (zg_A Γ) (zt_W (zg_T Γ) σ xs)) (hk : ∀ q : Nat, q < H.size → ¬ zt_own (zg_T Γ) H.size q → H1[q]? = H[q]?) (ht : t.heap = H1) (hB : zB (zg_T Γ) σ' t) : va_P (zt_D (zg_T Γ)) (zt_cl (zg_T Γ)) (zt_W (zg_T Γ) σ' xs) H1 ∧ va_D (zg_A Γ) (zt_W (zg_T Γ) σ' xs) := by
  refine ⟨fun i q hi => ?_, zt_D_any hD⟩
  rcases Nat.lt_or_ge i (zt_N (zg_T Γ)) with h | h
  · unfold zB at hB
    rw [ht] at hB
    rw [zt_at h] at hi
    exact hB i q (by rw [zt_at h]; exact hi)
  · rw [zt_ge h] at hi
    have hi2 : (zt_W (zg_T Γ) σ xs)[i]? = some q := by rw [zt_ge h]; exact hi
    refine (hP i q hi2).kept (hk q.1 (hP i q hi2).lt ?_)
    rintro (⟨j, hj, e⟩ | e)
    · have := hD.1 i j q _ hi2 (zt_at hj) e
      omega
    · exact absurd (hP i q hi2).lt (Nat.not_lt.mpr e)
theorem z_preV {C : String} {q0 ci : Nat} {qc : vw_C} {ks : List Nat} {H : Heap} {As : List Value} (X : ZX Γ cc own fr lo) (hP : va_P (zt_D (zg_T Γ)) (zt_cl (zg_T Γ)) (zt_W (zg_T Γ) σ xs) H) (hD : va_D (zg_A Γ) (zt_W (zg_T Γ) σ xs)) {locs : List Loc} (hS : va_S (zg_A Γ) (zg_s Γ).heap H locs) (hq : q0 < zt_N (zg_T Γ)) (hL : zt_L (zg_T Γ) q0 = .inl (ci, ks)) (hc : (zt_cl (zg_T Γ))[ci]? = some qc) (hC : qc.1 = C) :
    PreV (zg_s Γ) H C (zt_ad (zg_T Γ) q0) (zPre (zg_T Γ) H.size σ (.ref (zt_ad (zg_T Γ) q0) :: As)) As := by
  refine ⟨zPre_blind, ?_, fun U hU hW => ⟨rfl, by rw [hU], by rw [hU]; exact zt_P_nil hP, va_K.moved hW.alike X.hK, zt_D_nil hD, X.hNw.warm hW, by rw [hU]; exact X.hSt.go hS hW.alike (zt_own_in hD hS X.hA)⟩⟩
  have hg := zt_at (Θ := zg_T Γ) (σ := σ) (xs := xs) hq
  rw [hL] at hg
  rw [← hC]
  exact va_recv X.hK hP hc hg
theorem z_preS {H : Heap} {As : List Value} (X : ZX Γ cc own fr lo) (hP : va_P (zt_D (zg_T Γ)) (zt_cl (zg_T Γ)) (zt_W (zg_T Γ) σ xs) H) (hD : va_D (zg_A Γ) (zt_W (zg_T Γ) σ xs)) {locs : List Loc} (hS : va_S (zg_A Γ) (zg_s Γ).heap H locs) :
    PreS (zg_s Γ) H (zPre (zg_T Γ) H.size σ As) As := ⟨zPre_blind, fun U hU hW => ⟨rfl, by rw [hU], by rw [hU]; exact zt_P_nil hP, va_K.moved hW.alike X.hK, zt_D_nil hD, X.hNw.warm hW, by rw [hU]; exact X.hSt.go hS hW.alike (zt_own_in hD hS X.hA)⟩⟩
theorem z_callVI {C : String} {q0 ci index mc ms : Nat} {qc : vw_C} {ks : List Nat} {y : MethodName} {code : ByteArray} {nL f1 l1 : Nat} {ret : FieldType} {As : List Value} {post : Int → ZS → Prop} (X : ZX Γ cc own fr lo) (hM : ZMetI (zg_l Γ) (zg_T Γ) y code nL ret f1 l1 mc ms (.ref (zt_ad (zg_T Γ) q0) :: As) σ post) (hq : q0 < zt_N (zg_T Γ)) (hL : zt_L (zg_T Γ) q0 = .inl (ci, ks)) (hc : (zt_cl (zg_T Γ))[ci]? = some qc) (hC : qc.1 = C)
    (hw : GoodIn lw_all (wsV own index C y (ws_ y code nL (some ret)))) (hd : y.cls = C ∧ y.cls ≠ "java/lang/invoke/MethodHandle" ∧ y.cls ≠ "java/lang/invoke/VarHandle" ∧ (parseMethodDescriptor y.desc).map (fun d => d.parameters.length) = some As.length) (hR : f1 + 1 ≤ fr ∧ 8 + (nL + 11) + l1 ≤ lo) (hcs : k + mc ≤ (zg_R Γ).cells ∧ n + ms ≤ (zg_R Γ).slots) (hst : (st.map fun v => v.category).sum ≤ 8) (d : decode cc pc = .ok (.invokevirtual index, 3)) {full : List Value} (hfull : full = As.reverse ++ .ref (zt_ad (zg_T Γ) q0) :: st)
    (h : ∀ (r : Int) (σ' : ZS), post r σ' → Z Γ (k + mc) (n + ms) σ' xs (pc + 3) lv (.int (iz r) :: st)) : Z Γ k n σ xs pc lv full := fun H locs ls hP hD hS hv => by
  subst hfull
  have cw : CallW (zg_R Γ) (zg_s Γ) (zg_a Γ) own C index y code nL (some ret) (ws_ y code nL (some ret)) { frames := f1, cells := mc, slots := ms, locals := l1 } mc ms As.length := cwV As.length X.hts hw rfl rfl rfl hd (by rw [X.hfr, X.hlo]; exact hR)
  refine va_calli (va_runV (zx_fix X) (hM H.size) cw (z_preV X hP hD hS hq hL hc hC) rfl rfl hv.1 rfl (lv_room hst) d hcs) hS (fun q _ hq => zt_own_in hD hS X.hA q hq) (fun q hq => zt_own_in hD hS X.hA q hq) (fun r σ' t H1 locs1 ht hvm hp hB hz hkk hS1 => ?_)
  obtain ⟨x, rfl, hx⟩ := hp
  obtain ⟨hP1, hD1⟩ := z_back hP hD hkk ht hB
  exact h x σ' hx H1 locs1 ls hP1 hD1 hS1 hv
theorem z_callVV {C : String} {q0 ci index mc ms : Nat} {qc : vw_C} {ks : List Nat} {y : MethodName} {code : ByteArray} {nL f1 l1 : Nat} {As : List Value} {post : ZS → Prop} (X : ZX Γ cc own fr lo) (hM : ZMetV (zg_l Γ) (zg_T Γ) y code nL f1 l1 mc ms (.ref (zt_ad (zg_T Γ) q0) :: As) σ post) (hq : q0 < zt_N (zg_T Γ)) (hL : zt_L (zg_T Γ) q0 = .inl (ci, ks)) (hc : (zt_cl (zg_T Γ))[ci]? = some qc) (hC : qc.1 = C)
    (hw : GoodIn lw_all (wsV own index C y (ws_ y code nL none))) (hd : y.cls = C ∧ y.cls ≠ "java/lang/invoke/MethodHandle" ∧ y.cls ≠ "java/lang/invoke/VarHandle" ∧ (parseMethodDescriptor y.desc).map (fun d => d.parameters.length) = some As.length) (hR : f1 + 1 ≤ fr ∧ 8 + (nL + 11) + l1 ≤ lo) (hcs : k + mc ≤ (zg_R Γ).cells ∧ n + ms ≤ (zg_R Γ).slots) (hst : (st.map fun v => v.category).sum ≤ 8) (d : decode cc pc = .ok (.invokevirtual index, 3)) {full : List Value} (hfull : full = As.reverse ++ .ref (zt_ad (zg_T Γ) q0) :: st)
    (h : ∀ (σ' : ZS), post σ' → Z Γ (k + mc) (n + ms) σ' xs (pc + 3) lv st) : Z Γ k n σ xs pc lv full := fun H locs ls hP hD hS hv => by
  subst hfull
  have cw : CallW (zg_R Γ) (zg_s Γ) (zg_a Γ) own C index y code nL none (ws_ y code nL none) { frames := f1, cells := mc, slots := ms, locals := l1 } mc ms As.length := cwV As.length X.hts hw rfl rfl rfl hd (by rw [X.hfr, X.hlo]; exact hR)
  refine va_callv (va_runV (zx_fix X) (hM H.size) cw (z_preV X hP hD hS hq hL hc hC) rfl rfl hv.1 rfl (lv_room hst) d hcs) hS (fun q _ hq => zt_own_in hD hS X.hA q hq) (fun q hq => zt_own_in hD hS X.hA q hq) (fun σ' t H1 locs1 ht hvm hp hB hz hkk hS1 => ?_)
  obtain ⟨hP1, hD1⟩ := z_back hP hD hkk ht hB
  exact h σ' hp H1 locs1 ls hP1 hD1 hS1 hv
theorem z_callSI {index mc ms : Nat} {y : MethodName} {code : ByteArray} {nL f1 l1 : Nat} {ret : FieldType} {As : List Value} {post : Int → ZS → Prop} (X : ZX Γ cc own fr lo) (hM : ZMetI (zg_l Γ) (zg_T Γ) y code nL ret f1 l1 mc ms As σ post)
    (hw : GoodIn lw_all (va_wsS own index y (ws_ y code nL (some ret)))) (hd : y.cls ≠ "java/lang/invoke/MethodHandle" ∧ y.cls ≠ "java/lang/invoke/VarHandle" ∧ (parseMethodDescriptor y.desc).map (fun d => d.parameters.length) = some As.length) (hR : f1 + 1 ≤ fr ∧ 8 + (nL + 11) + l1 ≤ lo) (hcs : k + mc ≤ (zg_R Γ).cells ∧ n + ms ≤ (zg_R Γ).slots) (hst : (st.map fun v => v.category).sum ≤ 8) (d : decode cc pc = .ok (.invokestatic index, 3)) {full : List Value} (hfull : full = As.reverse ++ st)
    (h : ∀ (r : Int) (σ' : ZS), post r σ' → Z Γ (k + mc) (n + ms) σ' xs (pc + 3) lv (.int (iz r) :: st)) : Z Γ k n σ xs pc lv full := fun H locs ls hP hD hS hv => by
  subst hfull
  have cw := va_cwS (R := zg_R Γ) (rm := { frames := f1, cells := mc, slots := ms, locals := l1 }) (mc := mc) (ms := ms) As.length X.hts hw rfl rfl rfl hd (by rw [X.hfr, X.hlo]; exact hR)
  refine va_calli (va_runS (zx_fix X) (hM H.size) cw (z_preS X hP hD hS) rfl rfl hv.1 rfl (lv_room hst) d hcs) hS (fun q _ hq => zt_own_in hD hS X.hA q hq) (fun q hq => zt_own_in hD hS X.hA q hq) (fun r σ' t H1 locs1 ht hvm hp hB hz hkk hS1 => ?_)
  obtain ⟨x, rfl, hx⟩ := hp
  obtain ⟨hP1, hD1⟩ := z_back hP hD hkk ht hB
  exact h x σ' hx H1 locs1 ls hP1 hD1 hS1 hv
end ZCALL
/-! the ends, and a method's contract out of its walk -/
def ZRetI (Γ : ZG) (cc : ByteArray) (ret : FieldType) (mc ms : Nat) (post : Int → ZS → Prop) : Prop := ∀ (k n pc : Nat) (σ : ZS) (xs : va_W) (lv : List (Nat × Value)) (x : Int), decode cc pc = .ok (.ireturn, 1) → narrow ret (.int (iz x)) = .int (iz x) → k ≤ mc → n ≤ ms → post x σ → Z Γ k n σ xs pc lv [.int (iz x)]
def ZRetV (Γ : ZG) (cc : ByteArray) (mc ms : Nat) (post : ZS → Prop) : Prop := ∀ (k n pc : Nat) (σ : ZS) (xs : va_W) (lv : List (Nat × Value)), decode cc pc = .ok (.return_, 1) → k ≤ mc → n ≤ ms → post σ → Z Γ k n σ xs pc lv []
theorem z_nb {x : Int} (h : x = 0 ∨ x = 1) : narrow .boolean (.int (iz x)) = .int (iz x) := by rcases h with rfl | rfl <;> rfl
def zMk (p : Program) (l : Launch) (e : Env) (R : Room) (s : State) (m : MethodId) (args : Array Value) (below : List Frame) (meth : Method) (c : Code) (Q : State → Prop) (A : Nat → Prop) (Θ : ZTh) (nL : Nat) : ZG := (p, l, e, R, s, m, args, below, meth, c, Q, A, Θ, nL)
/-- the room's cells and slots of a walk -/
def ZCap (Γ : ZG) (l : Launch) (Θ : ZTh) (nL mc ms : Nat) : Prop := zg_l Γ = l ∧ zg_T Γ = Θ ∧ zg_n Γ = nL ∧ (zg_R Γ).cells = mc ∧ (zg_R Γ).slots = ms
theorem ZMetI.of {l : Launch} {Θ : ZTh} {y : MethodName} {code : ByteArray} {nL : Nat} {ret : FieldType} {fr lo mc ms : Nat} {av : List Value} {σ : ZS} {post : Int → ZS → Prop} (hy : plainName y.cls = true) (hlen : (lg_sl av).length ≤ nL)
    (walk : ∀ (Γ : ZG), ZX Γ code y.cls fr lo → ZCap Γ l Θ nL mc ms → ZRetI Γ code ret mc ms post → Z Γ 0 0 σ [] 0 (lv_args 0 av) []) : ZMetI l Θ y code nL ret fr lo mc ms av σ post := by
  intro sz
  refine Met.ofW (cc := code) (maxL := nL) (ret := some ret) hy rfl ?_
  intro p e s m args below meth c s₁ B hml hv
  obtain ⟨rfl, hsz, hP, hK, hD0, hNw, hSt⟩ := hv
  subst hsz
  have hts := atoms_spec (ws := ws_ y code nL (some ret)) B.pre
  have hts : ∀ w ∈ lw_all, w.before _ s = true := fun w h => hts w (List.mem_cons_of_mem _ h)
  have hown : s.vm.findClass y.cls = some m.cls := findClass_of_methodNamed B.named
  have hD : va_D (zt_own Θ s.heap.size) (zt_W Θ σ []) := hD0.weaken (fun j q hj _ => Or.inl ⟨j, (zt_nil hj).1, (zt_nil hj).2⟩)
  have hl := lv_entry av (n := nL) hlen
  rw [lg_entry_eq]
  generalize (lg_sl av ++ List.replicate (nL - (lg_sl av).length) Slot.unset).toArray = ls at hl ⊢
  have hr := B.returns
  have hlk := B.notSynchronized
  have hbx := B.exec
  have hbb := B.bytes
  let Γ : ZG := zMk p l e { frames := fr, cells := mc, slots := ms, locals := lo } s m av.toArray below meth c (MQ below (va_Qi (fun (r : Int32) (σ' : ZS) => ∃ x : Int, r = iz x ∧ post x σ') (zB Θ) (zt_own Θ s.heap.size)) av.toArray s mc ms (zt_own Θ s.heap.size)) (zt_own Θ s.heap.size) Θ nL
  have X : ZX Γ code y.cls fr lo := ⟨hbx, hbb, hml, hown, hts, hlk, hK, fun q h => Or.inr h, rfl, rfl, hNw, hSt⟩
  refine walk Γ X ⟨rfl, rfl, rfl, rfl, rfl⟩ (fun k n pc σ' xs lv x d hn hk hm hp => ?_) s.heap [] ls hP hD va_S.rf hl
  intro H locs ls' hP' hD' hS' hv'
  refine W.widen hk hm ?_
  exact W.zret hbx hbb hr hn (fun t ht hW => ⟨⟨iz x, σ', rfl, ⟨x, rfl, hp⟩, by unfold zB; rw [ht]; exact zt_P_nil hP'⟩, hS'.F ht⟩) hS'.2.2 d hlk
theorem ZMetV.of {l : Launch} {Θ : ZTh} {y : MethodName} {code : ByteArray} {nL : Nat} {fr lo mc ms : Nat} {av : List Value} {σ : ZS} {post : ZS → Prop} (hy : plainName y.cls = true) (hlen : (lg_sl av).length ≤ nL)
    (walk : ∀ (Γ : ZG), ZX Γ code y.cls fr lo → ZCap Γ l Θ nL mc ms → ZRetV Γ code mc ms post → Z Γ 0 0 σ [] 0 (lv_args 0 av) []) : ZMetV l Θ y code nL fr lo mc ms av σ post := by
  intro sz
  refine Met.ofW (cc := code) (maxL := nL) (ret := none) hy rfl ?_
  intro p e s m args below meth c s₁ B hml hv
  obtain ⟨rfl, hsz, hP, hK, hD0, hNw, hSt⟩ := hv
  subst hsz
  have hts := atoms_spec (ws := ws_ y code nL none) B.pre
  have hts : ∀ w ∈ lw_all, w.before _ s = true := fun w h => hts w (List.mem_cons_of_mem _ h)
  have hown : s.vm.findClass y.cls = some m.cls := findClass_of_methodNamed B.named
  have hD : va_D (zt_own Θ s.heap.size) (zt_W Θ σ []) := hD0.weaken (fun j q hj _ => Or.inl ⟨j, (zt_nil hj).1, (zt_nil hj).2⟩)
  have hl := lv_entry av (n := nL) hlen
  rw [lg_entry_eq]
  generalize (lg_sl av ++ List.replicate (nL - (lg_sl av).length) Slot.unset).toArray = ls at hl ⊢
  have hr := B.returns
  have hlk := B.notSynchronized
  have hbx := B.exec
  have hbb := B.bytes
  let Γ : ZG := zMk p l e { frames := fr, cells := mc, slots := ms, locals := lo } s m av.toArray below meth c (MQ below (va_Qv (fun (σ' : ZS) => post σ') (zB Θ) (zt_own Θ s.heap.size)) av.toArray s mc ms (zt_own Θ s.heap.size)) (zt_own Θ s.heap.size) Θ nL
  have X : ZX Γ code y.cls fr lo := ⟨hbx, hbb, hml, hown, hts, hlk, hK, fun q h => Or.inr h, rfl, rfl, hNw, hSt⟩
  refine walk Γ X ⟨rfl, rfl, rfl, rfl, rfl⟩ (fun k n pc σ' xs lv d hk hm hp => ?_) s.heap [] ls hP hD va_S.rf hl
  intro H locs ls' hP' hD' hS' hv'
  refine W.widen hk hm ?_
  exact W.vret hbx hbb hr (fun t ht hW => ⟨⟨σ', rfl, hp, by unfold zB; rw [ht]; exact zt_P_nil hP'⟩, hS'.F ht⟩) hS'.2.2 d hlk
/-! shorter forms for printed rows -/
theorem InR_ix {i : Int} {N : Int} (h : 0 ≤ i ∧ i < N) (hN : N ≤ 2147483648) : InR i := ⟨by omega, by omega⟩
theorem InR_b {b : Int} (h : b = 0 ∨ b = 1) : InR b := by rcases h with rfl | rfl <;> exact ⟨by decide, by decide⟩
theorem z_fitb {x : Int} (h : x = 0 ∨ x = 1) : fits .boolean (.int (iz x)) = true := by rcases h with rfl | rfl <;> rfl
def zroom (f l fr lo : Nat) : Bool := Nat.ble f fr && Nat.ble l lo
theorem zroom_of {f1 nL l1 fr lo : Nat} (h : zroom (f1 + 1) (8 + (nL + 11) + l1) fr lo = true) : f1 + 1 ≤ fr ∧ 8 + (nL + 11) + l1 ≤ lo := by
  unfold zroom at h
  rw [Bool.and_eq_true] at h
  exact ⟨Nat.le_of_ble_eq_true h.1, Nat.le_of_ble_eq_true h.2⟩
/-- loops: the body over what goes on; a number of rounds -/
def zfix {α : Type} (B : (α → Prop) → α → Prop) : Nat → α → Prop
  | 0, _ => False
  | n + 1, a => B (zfix B n) a
theorem zfix_rule {α : Type} {B : (α → Prop) → α → Prop} (I : α → Prop) (μ : α → Nat) (hs : ∀ (C : α → Prop) (a : α), I a → (∀ a', I a' → μ a' < μ a → C a') → B C a) {a : α} (h : I a) : ∃ N, zfix B N a := by
  have key : ∀ n a, I a → μ a < n → zfix B n a := by
    intro n
    induction n with
    | zero => intro a _ h; exact absurd h (Nat.not_lt_zero _)
    | succ n ih => intro a ha hn; exact hs _ a ha (fun a' ha' hm => ih a' ha' (by omega))
  exact ⟨μ a + 1, key _ a h (Nat.lt_succ_self _)⟩
theorem zand_mask (a : Int) {k : Nat} {m M : Int} (hk : Nat.ble k 30 = true) (hM : M = 2 ^ k) (hm : m = M - 1) : zand a m = a % M := by
  have hk := Nat.le_of_ble_eq_true hk
  subst hm
  have hp : (2 : Int) ^ k ≤ 2 ^ 30 := by
    have : (2 : Nat) ^ k ≤ 2 ^ 30 := Nat.pow_le_pow_right (by decide) hk
    exact_mod_cast this
  have hpos : (0 : Int) < 2 ^ k := by
    have : (0 : Nat) < 2 ^ k := Nat.pow_pos (by decide)
    exact_mod_cast this
  have hmm : InR (M - 1) := by subst hM; exact ⟨by omega, by omega⟩
  have h1 : (iz (M - 1)).toBitVec.toNat = 2 ^ k - 1 := by
    have e := iz_toInt hmm
    have e2 : (iz (M - 1)).toBitVec.toInt = M - 1 := e
    have e3 := BitVec.toInt_eq_toNat_cond (x := (iz (M - 1)).toBitVec)
    rw [e2] at e3
    have h2k : ((2 ^ k : Nat) : Int) = M := by rw [hM]; norm_cast
    split at e3
    · omega
    · have := (iz (M - 1)).toBitVec.isLt
      omega
  have h2 := pk_and (iz a) (m := iz (M - 1)) k h1
  unfold zand
  rw [h2]
  have hlt : (iz a).toBitVec.toNat % 2 ^ k < 2 ^ k := Nat.mod_lt _ (Nat.pow_pos (by decide))
  have hp2 : (2 : Nat) ^ k ≤ 2 ^ 30 := Nat.pow_le_pow_right (by decide) hk
  rw [nI_toInt (by omega)]
  have h3 : ((iz a).toBitVec.toNat : Int) = a % 2 ^ 32 := by
    show ((BitVec.ofInt 32 a).toNat : Int) = _
    rw [BitVec.toNat_ofInt]
    rw [Int.toNat_of_nonneg (Int.emod_nonneg _ (by decide))]
    norm_cast
  have h2k : ((2 ^ k : Nat) : Int) = M := by rw [hM]; norm_cast
  rw [Int.natCast_emod, h3, h2k, hM]
  apply Int.emod_emod_of_dvd
  exact ⟨2 ^ (32 - k), by rw [← Int.pow_add]; congr 1; omega⟩
theorem iz_shc {k : Nat} (hk : Nat.ble k 30 = true) : (((iz (k : Int)) &&& 31).toBitVec.smod 32).toNat = k := by
  have hk := Nat.le_of_ble_eq_true hk
  have key : ∀ k : Nat, k < 31 → (((iz (k : Int)) &&& 31).toBitVec.smod 32).toNat = k := by decide +kernel
  exact key k (by omega)
theorem zshl_c (a : Int) {k : Nat} {c M : Int} (hk : Nat.ble k 30 = true) (hc : c = (k : Int)) (hM : M = 2 ^ k) : iz (zshl a c) = iz (a * M) := by
  subst hc
  subst hM
  rw [← zshl_iz]
  have h1 := pk_shl (iz a) ((iz (k : Int)) &&& 31) k (iz_shc hk)
  apply Int32.toBitVec_inj.mp
  apply BitVec.eq_of_toNat_eq
  rw [h1]
  have e : ∀ x : Int, ((iz x).toBitVec.toNat : Int) = x % 2 ^ 32 := by
    intro x
    show ((BitVec.ofInt 32 x).toNat : Int) = _
    rw [BitVec.toNat_ofInt, Int.toNat_of_nonneg (Int.emod_nonneg _ (by decide))]
    norm_cast
  have h3 : (((iz a).toBitVec.toNat * 2 ^ k % 2 ^ 32 : Nat) : Int) = ((iz (a * 2 ^ k)).toBitVec.toNat : Int) := by
    rw [Int.natCast_emod, Int.natCast_mul, e, e]
    have c1 : ((2 ^ k : Nat) : Int) = 2 ^ k := by norm_cast
    have c2 : ((2 ^ 32 : Nat) : Int) = 2 ^ 32 := rfl
    rw [c1, c2, Int.mul_emod, Int.emod_emod_of_dvd _ (Int.dvd_refl _), ← Int.mul_emod]
  exact_mod_cast h3
theorem zshr_c {a : Int} (ha : InR a) {k : Nat} {c M : Int} (hk : Nat.ble k 30 = true) (hc : c = (k : Int)) (hM : M = 2 ^ k) : zshr a c = a / M := by
  subst hc
  subst hM
  unfold zshr
  rw [pk_shr (iz a) ((iz (k : Int)) &&& 31) k (iz_shc hk), iz_toInt ha, Int.shiftRight_eq_div_pow]
  norm_cast
section ZMORE
variable {Γ : ZG} {cc : ByteArray} {own : String} {fr lo : Nat} {k n : Nat} {σ : ZS} {xs : va_W} {pc : Nat} {lv : List (Nat × Value)} {st : List Value} {a b : Int} {l : Launch} {Θ : ZTh} {nL nL0 mc0 ms0 : Nat}
theorem z_topi {e : Int} (h : ∀ x : Int, x = e → Z Γ k n σ xs pc lv (.int (iz x) :: st)) : Z Γ k n σ xs pc lv (.int (iz e) :: st) := h e rfl
theorem z_iandm (X : ZX Γ cc own fr lo) (w : Nat) {m M : Int} (hM : M = 2 ^ w) (hm : m = M - 1) (hk : Nat.ble w 30 = true) (d : decode cc pc = .ok (.iand, 1)) (h : Z Γ k n σ xs (pc + 1) lv (.int (iz (a % M)) :: st)) : Z Γ k n σ xs pc lv (.int (iz m) :: .int (iz a) :: st) := z_iand X d (by rw [zand_mask a hk hM hm]; exact h)
theorem z_ishlm (X : ZX Γ cc own fr lo) (w : Nat) {c M : Int} (hM : M = 2 ^ w) (hc : c = (w : Int)) (hk : Nat.ble w 30 = true) (d : decode cc pc = .ok (.ishl, 1)) (h : Z Γ k n σ xs (pc + 1) lv (.int (iz (a * M)) :: st)) : Z Γ k n σ xs pc lv (.int (iz c) :: .int (iz a) :: st) := z_ishl X d (by rw [zshl_c a hk hc hM]; exact h)
theorem z_ishrm (X : ZX Γ cc own fr lo) (w : Nat) {c M : Int} (hM : M = 2 ^ w) (hc : c = (w : Int)) (hk : Nat.ble w 30 = true) (d : decode cc pc = .ok (.ishr, 1)) (ha : InR a) (h : Z Γ k n σ xs (pc + 1) lv (.int (iz (a / M)) :: st)) : Z Γ k n σ xs pc lv (.int (iz c) :: .int (iz a) :: st) := z_ishr X d (by rw [zshr_c ha hk hc hM]; exact h)
theorem z_istore_nK (X : ZX Γ cc own fr lo) (K : ZCap Γ l Θ nL mc0 ms0) {j : Fin 4} {x : Int32} {lv' : List (Nat × Value)} (d : decode cc pc = .ok (.istore_n j, 1)) (hn : Nat.blt (j : Nat) nL = true) (hl : ((j : Nat), Value.int x) :: lv.filter (fun q => !(q.1 == (j : Nat)) && !(q.1 + 1 == (j : Nat) && q.2.category == 2)) = lv') (h : Z Γ k n σ xs (pc + 1) lv' st) : Z Γ k n σ xs pc lv (.int x :: st) := z_istore_n X d (by rw [K.2.2.1]; exact Nat.le_of_ble_eq_true hn) hl h
theorem z_istoreK (X : ZX Γ cc own fr lo) (K : ZCap Γ l Θ nL mc0 ms0) {j : Nat} {x : Int32} {lv' : List (Nat × Value)} (d : decode cc pc = .ok (.istore j, 2)) (hn : Nat.blt j nL = true) (hl : (j, Value.int x) :: lv.filter (fun q => !(q.1 == j) && !(q.1 + 1 == j && q.2.category == 2)) = lv') (h : Z Γ k n σ xs (pc + 2) lv' st) : Z Γ k n σ xs pc lv (.int x :: st) := z_istore X d (by rw [K.2.2.1]; exact Nat.le_of_ble_eq_true hn) hl h
theorem z_lstoreK (X : ZX Γ cc own fr lo) (K : ZCap Γ l Θ nL mc0 ms0) {j : Nat} {x : Int64} {lv' : List (Nat × Value)} (d : decode cc pc = .ok (.lstore j, 2)) (hn : Nat.blt (j + 1) nL = true) (hl : (j, Value.long x) :: lv.filter (fun q => !(q.1 == j) && (!(q.1 == j + 1) && !(q.1 + 1 == j && q.2.category == 2))) = lv') (h : Z Γ k n σ xs (pc + 2) lv' st) : Z Γ k n σ xs pc lv (.long x :: st) := z_lstore X d (by rw [K.2.2.1]; exact Nat.le_of_ble_eq_true hn) hl h
theorem z_iincK (X : ZX Γ cc own fr lo) (K : ZCap Γ l Θ nL mc0 ms0) {j : Nat} {m : Int} (p0 : Nat) {lv' : List (Nat × Value)} (d : decode cc pc = .ok (.iinc j m, 3)) (hk : lv[p0]? = some (j, .int (iz a))) (hn : Nat.blt j nL = true) (hl : (j, Value.int (iz (a + m))) :: lv.filter (fun q => !(q.1 == j) && !(q.1 + 1 == j && q.2.category == 2)) = lv') (h : Z Γ k n σ xs (pc + 3) lv' st) : Z Γ k n σ xs pc lv st := z_iinc X p0 d hk (by rw [K.2.2.1]; exact Nat.le_of_ble_eq_true hn) hl h
theorem z_ald' (X : ZX Γ cc own fr lo) (K : ZCap Γ l Θ nL0 mc0 ms0) {t0 N0 : Nat} (q : Nat) (hq : q < zt_N Θ) (hL : zt_L Θ q = .inr (.inl (t0, N0))) (ht : ((zt_ty Θ)[t0]?).map (fun q => q.2) = some .int) (hn : N0 < 2147483648) {i : Int} (d : decode cc pc = .ok (.iaload, 1)) (hi : 0 ≤ i ∧ i < (N0 : Int)) (h : Z Γ k n σ xs (pc + 1) lv (.int (iz (σ q i)) :: st)) : Z Γ k n σ xs pc lv (.int (iz i) :: .ref (zt_ad Θ q) :: st) := by
  obtain ⟨rfl, rfl, -⟩ := K
  exact z_ald X q hq hL ht hn d hi h
theorem z_aldB' (X : ZX Γ cc own fr lo) (K : ZCap Γ l Θ nL0 mc0 ms0) {t0 N0 : Nat} (q : Nat) (hq : q < zt_N Θ) (hL : zt_L Θ q = .inr (.inl (t0, N0))) (ht : ((zt_ty Θ)[t0]?).map (fun q => q.2) = some .byte) (hn : N0 < 2147483648) {i : Int} (d : decode cc pc = .ok (.baload, 1)) (hi : 0 ≤ i ∧ i < (N0 : Int)) (h : Z Γ k n σ xs (pc + 1) lv (.int (iz (σ q i)) :: st)) : Z Γ k n σ xs pc lv (.int (iz i) :: .ref (zt_ad Θ q) :: st) := by
  obtain ⟨rfl, rfl, -⟩ := K
  exact z_aldB X q hq hL ht hn d hi h
theorem z_aldZ' (X : ZX Γ cc own fr lo) (K : ZCap Γ l Θ nL0 mc0 ms0) {t0 N0 : Nat} (q : Nat) (hq : q < zt_N Θ) (hL : zt_L Θ q = .inr (.inl (t0, N0))) (ht : ((zt_ty Θ)[t0]?).map (fun q => q.2) = some .boolean) (hn : N0 < 2147483648) {i : Int} (d : decode cc pc = .ok (.baload, 1)) (hi : 0 ≤ i ∧ i < (N0 : Int)) (h : Z Γ k n σ xs (pc + 1) lv (.int (iz (σ q i)) :: st)) : Z Γ k n σ xs pc lv (.int (iz i) :: .ref (zt_ad Θ q) :: st) := by
  obtain ⟨rfl, rfl, -⟩ := K
  exact z_aldZ X q hq hL ht hn d hi h
theorem z_ast' (X : ZX Γ cc own fr lo) (K : ZCap Γ l Θ nL0 mc0 ms0) {t0 N0 : Nat} (q : Nat) (hq : q < zt_N Θ) (hL : zt_L Θ q = .inr (.inl (t0, N0))) (ht : ((zt_ty Θ)[t0]?).map (fun q => q.2) = some .int) (hn : N0 < 2147483648) {i v : Int} (d : decode cc pc = .ok (.iastore, 1)) (hi : 0 ≤ i ∧ i < (N0 : Int)) (h : ∀ σ', σ' = zst σ q i v → Z Γ k n σ' xs (pc + 1) lv st) : Z Γ k n σ xs pc lv (.int (iz v) :: .int (iz i) :: .ref (zt_ad Θ q) :: st) := by
  obtain ⟨rfl, rfl, -⟩ := K
  exact z_ast X q hq hL ht hn d hi h
theorem z_astZ' (X : ZX Γ cc own fr lo) (K : ZCap Γ l Θ nL0 mc0 ms0) {t0 N0 : Nat} (q : Nat) (hq : q < zt_N Θ) (hL : zt_L Θ q = .inr (.inl (t0, N0))) (ht : ((zt_ty Θ)[t0]?).map (fun q => q.2) = some .boolean) (hn : N0 < 2147483648) {i v : Int} (d : decode cc pc = .ok (.bastore, 1)) (hi : 0 ≤ i ∧ i < (N0 : Int)) (hb : v = 0 ∨ v = 1) (h : ∀ σ', σ' = zst σ q i v → Z Γ k n σ' xs (pc + 1) lv st) : Z Γ k n σ xs pc lv (.int (iz v) :: .int (iz i) :: .ref (zt_ad Θ q) :: st) := by
  obtain ⟨rfl, rfl, -⟩ := K
  exact z_astZ X q hq hL ht hn d hi hb h
theorem z_astB' (X : ZX Γ cc own fr lo) (K : ZCap Γ l Θ nL0 mc0 ms0) {t0 N0 : Nat} (q : Nat) (hq : q < zt_N Θ) (hL : zt_L Θ q = .inr (.inl (t0, N0))) (ht : ((zt_ty Θ)[t0]?).map (fun q => q.2) = some .byte) (hn : N0 < 2147483648) {i v : Int} (d : decode cc pc = .ok (.bastore, 1)) (hi : 0 ≤ i ∧ i < (N0 : Int)) (hb : vp_nar .byte (iz v) = iz v) (h : ∀ σ', σ' = zst σ q i v → Z Γ k n σ' xs (pc + 1) lv st) : Z Γ k n σ xs pc lv (.int (iz v) :: .int (iz i) :: .ref (zt_ad Θ q) :: st) := by
  obtain ⟨rfl, rfl, -⟩ := K
  exact z_astB X q hq hL ht hn d hi hb h
theorem z_get' (X : ZX Γ cc own fr lo) (K : ZCap Γ l Θ nL0 mc0 ms0) {ref C : String} {T : u_T} {N0 ci index : Nat} {ks : List Nat} (hin : ∀ w ∈ u_ws C T N0, w ∈ lw_all) (q : Nat) (hq : q < zt_N Θ) (hL : zt_L Θ q = .inl (ci, ks)) (hc : (zt_cl Θ)[ci]? = some (C, T, N0)) (j : Nat) (hj : j < N0) (hlink : Cond.fieldLink own index ref (T j).2.1 (T j).2.2.1 ∈ lw_all) (hsame : ∀ x, (zg_s Γ).fieldFound? (T j).1 (T j).2.1 (T j).2.2.1 = some x → (zg_s Γ).fieldFound? ref (T j).2.1 (T j).2.2.1 = some x) {kd : Nat} (hkd : ks[j]? = some kd) (d : decode cc pc = .ok (.getfield index, 3)) (h : Z Γ k n σ xs (pc + 3) lv (zval (zt_ad Θ) kd (σ q (j : Int)) :: st)) : Z Γ k n σ xs pc lv (.ref (zt_ad Θ q) :: st) := by
  obtain ⟨rfl, rfl, -⟩ := K
  exact z_get X hin q hq hL hc j hj hlink hsame hkd d h
theorem z_put' (X : ZX Γ cc own fr lo) (K : ZCap Γ l Θ nL0 mc0 ms0) {ref C : String} {T : u_T} {N0 ci index : Nat} {ks : List Nat} (hin : ∀ w ∈ u_ws C T N0, w ∈ lw_all) (ty0 : Nat → FieldType) (hty : ∀ k, k < N0 → parseFieldDescriptor (T k).2.2.1 = some (ty0 k)) (hnm : ∀ a, a < N0 → ∀ b, b < N0 → a ≠ b → (T a).2.1 ≠ (T b).2.1) (q : Nat) (hq : q < zt_N Θ) (hL : zt_L Θ q = .inl (ci, ks)) (hc : (zt_cl Θ)[ci]? = some (C, T, N0)) (j : Nat) (hj : j < N0) (hlink : Cond.fieldLink own index ref (T j).2.1 (T j).2.2.1 ∈ lw_all) (hsame : ∀ x, (zg_s Γ).fieldFound? (T j).1 (T j).2.1 (T j).2.2.1 = some x → (zg_s Γ).fieldFound? ref (T j).2.1 (T j).2.2.1 = some x) (hfin : (T j).2.2.2 = false) {ty : FieldType} {v : Int} {kd : Nat} (hd : parseFieldDescriptor (T j).2.2.1 = some ty) (hnr : narrow ty (zval (zt_ad Θ) kd v) = zval (zt_ad Θ) kd v) (hfit : fits ty (zval (zt_ad Θ) kd v) = true) (hkd : ks[j]? = some kd) (d : decode cc pc = .ok (.putfield index, 3)) (h : ∀ σ', σ' = zst σ q (j : Int) v → Z Γ k n σ' xs (pc + 3) lv st) : Z Γ k n σ xs pc lv (zval (zt_ad Θ) kd v :: .ref (zt_ad Θ q) :: st) := by
  obtain ⟨rfl, rfl, -⟩ := K
  exact z_put X hin ty0 hty hnm q hq hL hc j hj hlink hsame hfin hd hnr hfit hkd d h
theorem z_callVI' {C : String} {q0 ci index mc ms : Nat} {qc : vw_C} {ks : List Nat} {y : MethodName} {code : ByteArray} {nL f1 l1 : Nat} {ret : FieldType} {As : List Value} {post : Int → ZS → Prop} (X : ZX Γ cc own fr lo) (K : ZCap Γ l Θ nL0 mc0 ms0) (hM : ZMetI l Θ y code nL ret f1 l1 mc ms (.ref (zt_ad Θ q0) :: As) σ post) (hq : q0 < zt_N Θ) (hL : zt_L Θ q0 = .inl (ci, ks)) (hc : (zt_cl Θ)[ci]? = some qc) (hC : qc.1 = C)
    (hw : GoodIn lw_all (wsV own index C y (ws_ y code nL (some ret)))) (hd : y.cls = C ∧ y.cls ≠ "java/lang/invoke/MethodHandle" ∧ y.cls ≠ "java/lang/invoke/VarHandle" ∧ (parseMethodDescriptor y.desc).map (fun d => d.parameters.length) = some As.length) (hR : f1 + 1 ≤ fr ∧ 8 + (nL + 11) + l1 ≤ lo) (hcs : k + mc ≤ (zg_R Γ).cells ∧ n + ms ≤ (zg_R Γ).slots) (hst : (st.map fun v => v.category).sum ≤ 8) (d : decode cc pc = .ok (.invokevirtual index, 3)) {full : List Value} (hfull : full = As.reverse ++ .ref (zt_ad Θ q0) :: st)
    (h : ∀ (r : Int) (σ' : ZS), post r σ' → Z Γ (k + mc) (n + ms) σ' xs (pc + 3) lv (.int (iz r) :: st)) : Z Γ k n σ xs pc lv full := by
  obtain ⟨rfl, rfl, -⟩ := K
  exact z_callVI X hM hq hL hc hC hw hd hR hcs hst d hfull h
theorem z_callVV' {C : String} {q0 ci index mc ms : Nat} {qc : vw_C} {ks : List Nat} {y : MethodName} {code : ByteArray} {nL f1 l1 : Nat} {As : List Value} {post : ZS → Prop} (X : ZX Γ cc own fr lo) (K : ZCap Γ l Θ nL0 mc0 ms0) (hM : ZMetV l Θ y code nL f1 l1 mc ms (.ref (zt_ad Θ q0) :: As) σ post) (hq : q0 < zt_N Θ) (hL : zt_L Θ q0 = .inl (ci, ks)) (hc : (zt_cl Θ)[ci]? = some qc) (hC : qc.1 = C)
    (hw : GoodIn lw_all (wsV own index C y (ws_ y code nL none))) (hd : y.cls = C ∧ y.cls ≠ "java/lang/invoke/MethodHandle" ∧ y.cls ≠ "java/lang/invoke/VarHandle" ∧ (parseMethodDescriptor y.desc).map (fun d => d.parameters.length) = some As.length) (hR : f1 + 1 ≤ fr ∧ 8 + (nL + 11) + l1 ≤ lo) (hcs : k + mc ≤ (zg_R Γ).cells ∧ n + ms ≤ (zg_R Γ).slots) (hst : (st.map fun v => v.category).sum ≤ 8) (d : decode cc pc = .ok (.invokevirtual index, 3)) {full : List Value} (hfull : full = As.reverse ++ .ref (zt_ad Θ q0) :: st)
    (h : ∀ (σ' : ZS), post σ' → Z Γ (k + mc) (n + ms) σ' xs (pc + 3) lv st) : Z Γ k n σ xs pc lv full := by
  obtain ⟨rfl, rfl, -⟩ := K
  exact z_callVV X hM hq hL hc hC hw hd hR hcs hst d hfull h
theorem z_callSI' {index mc ms : Nat} {y : MethodName} {code : ByteArray} {nL f1 l1 : Nat} {ret : FieldType} {As : List Value} {post : Int → ZS → Prop} (X : ZX Γ cc own fr lo) (K : ZCap Γ l Θ nL0 mc0 ms0) (hM : ZMetI l Θ y code nL ret f1 l1 mc ms As σ post)
    (hw : GoodIn lw_all (va_wsS own index y (ws_ y code nL (some ret)))) (hd : y.cls ≠ "java/lang/invoke/MethodHandle" ∧ y.cls ≠ "java/lang/invoke/VarHandle" ∧ (parseMethodDescriptor y.desc).map (fun d => d.parameters.length) = some As.length) (hR : f1 + 1 ≤ fr ∧ 8 + (nL + 11) + l1 ≤ lo) (hcs : k + mc ≤ (zg_R Γ).cells ∧ n + ms ≤ (zg_R Γ).slots) (hst : (st.map fun v => v.category).sum ≤ 8) (d : decode cc pc = .ok (.invokestatic index, 3)) {full : List Value} (hfull : full = As.reverse ++ st)
    (h : ∀ (r : Int) (σ' : ZS), post r σ' → Z Γ (k + mc) (n + ms) σ' xs (pc + 3) lv (.int (iz r) :: st)) : Z Γ k n σ xs pc lv full := by
  obtain ⟨rfl, rfl, -⟩ := K
  exact z_callSI X hM hw hd hR hcs hst d hfull h
end ZMORE
