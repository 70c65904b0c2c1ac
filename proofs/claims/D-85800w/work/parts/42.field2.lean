/-! the shortest row by which sums go on; what is wrong at a place -/
/-- sums of wrong numbers Y at powers X -/
def ssum {F : Type} [Lean.Grind.Field F] (v : Nat) (X Y : Nat → F) (j : Nat) : F := gsum (fun l => Y l * X l ^ (j + 1)) v
/-- a row of coefficients along the sums, with a sum of 1 ahead of all -/
def scv {F : Type} [Lean.Grind.Field F] (S c : Nat → F) (j : Nat) : F := gsum (fun i => c i * S (j - i)) (j + 1) + c (j + 1)
theorem scv_add {F : Type} [Lean.Grind.Field F] (S c d : Nat → F) (f : F) (j : Nat) : scv S (fun i => c i + f * d i) j = scv S c j + f * scv S d j := by
  unfold scv
  have : gsum (fun i => (c i + f * d i) * S (j - i)) (j + 1) = gsum (fun i => c i * S (j - i)) (j + 1) + f * gsum (fun i => d i * S (j - i)) (j + 1) := by
    rw [← gsum_mul, ← gsum_add]
    exact gsum_congr (fun i _ => by grind)
  rw [this]; grind
/-- a row moved on by one -/
def smv {F : Type} [Lean.Grind.Field F] (c : Nat → F) : Nat → F := fun i => if i = 0 then 0 else c (i - 1)
theorem smv_zero {F : Type} [Lean.Grind.Field F] (c : Nat → F) : smv c 0 = 0 := rfl
theorem smv_succ {F : Type} [Lean.Grind.Field F] (c : Nat → F) (i : Nat) : smv c (i + 1) = c i := by
  unfold smv; rw [if_neg (by omega), Nat.add_sub_cancel]
theorem scv_mv {F : Type} [Lean.Grind.Field F] (S c : Nat → F) (j : Nat) : scv S (smv c) (j + 1) = scv S c j := by
  unfold scv
  rw [gsum_head, smv_zero, smv_succ]
  have : gsum (fun i => smv c (i + 1) * S (j + 1 - (i + 1))) (j + 1) = gsum (fun i => c i * S (j - i)) (j + 1) := gsum_congr (fun i _ => by rw [smv_succ, Nat.add_sub_add_right])
  rw [this]; grind
/-- the row turned about, at a power -/
def stail {F : Type} [Lean.Grind.Field F] (C : Nat → F) (L : Nat) (x : F) : F := gsum (fun i => C i * x ^ (L - i)) (L + 1)
theorem scv_tail {F : Type} [Lean.Grind.Field F] {v : Nat} {X Y C : Nat → F} {L : Nat} (hz : ∀ i, L < i → C i = 0) {j : Nat} (hj : L ≤ j) : scv (ssum v X Y) C j = gsum (fun l => (Y l * X l * stail C L (X l)) * X l ^ (j - L)) v := by
  unfold scv
  rw [hz (j + 1) (by omega), gsum_cut (m := L + 1) (by omega) (fun i h1 _ => by rw [hz i (by omega)]; grind)]
  have e : gsum (fun i => C i * ssum v X Y (j - i)) (L + 1) = gsum (fun i => gsum (fun l => C i * (Y l * X l ^ (j - i + 1))) v) (L + 1) := gsum_congr (fun i _ => by unfold ssum; rw [gsum_mul])
  rw [e, gsum_swap]
  have e2 : gsum (fun l => gsum (fun i => C i * (Y l * X l ^ (j - i + 1))) (L + 1)) v = gsum (fun l => (Y l * X l * stail C L (X l)) * X l ^ (j - L)) v := gsum_congr (fun l _ => by
    unfold stail
    rw [← gsum_mul, ← gsum_mulr]
    refine gsum_congr (fun i hi => ?_)
    have e3 : j - i + 1 = (L - i) + (j - L) + 1 := by omega
    rw [e3, gpow_succ, gpow_add]; grind)
  rw [e2]; grind
/-- where a row of L goes on for v sums, it is 0 at all powers -/
theorem stail_zero {F : Type} [Lean.Grind.Field F] {v : Nat} {X Y C : Nat → F} {L : Nat} (hd : ∀ i j, i < v → j < v → X i = X j → i = j) (hX : ∀ l, l < v → X l ≠ 0) (hY : ∀ l, l < v → Y l ≠ 0) (hz : ∀ i, L < i → C i = 0) (h : ∀ j, L ≤ j → j < L + v → scv (ssum v X Y) C j = 0) : ∀ l, l < v → stail C L (X l) = 0 := by
  intro l hl
  have h0 := pvander v (fun l => Y l * X l * stail C L (X l)) X (fun m hm => by
    have := h (L + m) (by omega) (by omega)
    rw [scv_tail hz (by omega), Nat.add_sub_cancel_left] at this
    exact this) hd l hl
  have h1 := hY l hl
  have h2 := hX l hl
  exact gmul0 (gmul0 (a := Y l) (by grind) h1) h2
theorem stail_length {F : Type} [Lean.Grind.Field F] {v : Nat} {X Y C : Nat → F} {L m : Nat} (hd : ∀ i j, i < v → j < v → X i = X j → i = j) (hX : ∀ l, l < v → X l ≠ 0) (hY : ∀ l, l < v → Y l ≠ 0) (hz : ∀ i, L < i → C i = 0) (hLm : L ≤ m) (h : ∀ j, L ≤ j → j < m → scv (ssum v X Y) C j = 0) (hne : scv (ssum v X Y) C m ≠ 0) : m + 1 - L ≤ v := by
  rcases Nat.lt_or_ge v (m + 1 - L) with h1 | h1
  · exfalso
    have h2 := stail_zero hd hX hY hz (fun j h3 h4 => h j h3 (by omega))
    apply hne
    rw [scv_tail hz hLm]
    exact gsum_nil (fun l hl => by rw [h2 l hl]; grind)
  · exact h1
/-- what stands ahead of a sum's step -/
def BMI {F : Type} [Lean.Grind.Field F] (v : Nat) (S : Nat → F) (m L : Nat) (C D : Nat → F) (b : F) : Prop :=
  L ≤ m ∧ L ≤ v ∧ C 0 = 1 ∧ (∀ i, L < i → C i = 0) ∧ (∀ j, L ≤ j → j < m → scv S C j = 0) ∧ D 0 = 0 ∧ (∀ i, m + 1 - L < i → D i = 0) ∧ (∀ j, m + 1 - L ≤ j → j < m → scv S D j = 0) ∧ scv S D m = b ∧ b ≠ 0
theorem BMI_first {F : Type} [Lean.Grind.Field F] (v : Nat) (S : Nat → F) : BMI v S 0 0 (fun i => if i = 0 then 1 else 0) (smv (fun i => if i = 0 then 1 else 0)) 1 := by
  refine ⟨Nat.le_refl _, Nat.zero_le _, rfl, fun i hi => if_neg (by omega), fun j h1 h2 => by omega, smv_zero _, fun i hi => ?_, fun j h1 h2 => by omega, ?_, fun e => Lean.Grind.Field.zero_ne_one e.symm⟩
  · obtain ⟨k, rfl⟩ : ∃ k, i = k + 1 := ⟨i - 1, by omega⟩
    rw [smv_succ, if_neg (by omega)]
  · unfold scv
    rw [gsum_succ, gsum_zero, smv_zero, smv_succ, if_pos rfl]; grind
theorem BMI_zero {F : Type} [Lean.Grind.Field F] {v : Nat} {S : Nat → F} {m L : Nat} {C D : Nat → F} {b : F} (h : BMI v S m L C D b) (h0 : scv S C m = 0) : BMI v S (m + 1) L C (smv D) b := by
  obtain ⟨h1, h2, h3, h4, h5, h6, h7, h8, h9, h10⟩ := h
  refine ⟨by omega, h2, h3, h4, fun j ha hb => ?_, smv_zero _, fun i hi => ?_, fun j ha hb => ?_, ?_, h10⟩
  · by_cases e : j = m
    · rw [e]; exact h0
    · exact h5 j ha (by omega)
  · obtain ⟨k, rfl⟩ : ∃ k, i = k + 1 := ⟨i - 1, by omega⟩
    rw [smv_succ]; exact h7 k (by omega)
  · obtain ⟨k, rfl⟩ : ∃ k, j = k + 1 := ⟨j - 1, by omega⟩
    rw [scv_mv]; exact h8 k (by omega) (by omega)
  · rw [scv_mv]; exact h9
theorem BMI_same {F : Type} [Lean.Grind.Field F] {v : Nat} {S : Nat → F} {m L : Nat} {C D : Nat → F} {b f : F} (h : BMI v S m L C D b) (hf : scv S C m + f * b = 0) (hl : m < 2 * L) : BMI v S (m + 1) L (fun i => C i + f * D i) (smv D) b := by
  obtain ⟨h1, h2, h3, h4, h5, h6, h7, h8, h9, h10⟩ := h
  refine ⟨by omega, h2, by show C 0 + f * D 0 = 1; rw [h3, h6]; grind, fun i hi => by show C i + f * D i = 0; rw [h4 i hi, h7 i (by omega)]; grind, fun j ha hb => ?_, smv_zero _, fun i hi => ?_, fun j ha hb => ?_, ?_, h10⟩
  · rw [scv_add]
    by_cases e : j = m
    · rw [e, h9]; exact hf
    · rw [h5 j ha (by omega), h8 j (by omega) (by omega)]; grind
  · obtain ⟨k, rfl⟩ : ∃ k, i = k + 1 := ⟨i - 1, by omega⟩
    rw [smv_succ]; exact h7 k (by omega)
  · obtain ⟨k, rfl⟩ : ∃ k, j = k + 1 := ⟨j - 1, by omega⟩
    rw [scv_mv]; exact h8 k (by omega) (by omega)
  · rw [scv_mv]; exact h9
theorem BMI_more {F : Type} [Lean.Grind.Field F] {v : Nat} {X Y : Nat → F} (hd : ∀ i j, i < v → j < v → X i = X j → i = j) (hX : ∀ l, l < v → X l ≠ 0) (hY : ∀ l, l < v → Y l ≠ 0) {m L : Nat} {C D : Nat → F} {b f : F} (h : BMI v (ssum v X Y) m L C D b) (hne : scv (ssum v X Y) C m ≠ 0) (hf : scv (ssum v X Y) C m + f * b = 0) (hl : 2 * L ≤ m) : BMI v (ssum v X Y) (m + 1) (m + 1 - L) (fun i => C i + f * D i) (smv C) (scv (ssum v X Y) C m) := by
  obtain ⟨h1, h2, h3, h4, h5, h6, h7, h8, h9, h10⟩ := h
  have hv := stail_length hd hX hY h4 h1 h5 hne
  refine ⟨by omega, hv, by show C 0 + f * D 0 = 1; rw [h3, h6]; grind, fun i hi => by show C i + f * D i = 0; rw [h4 i (by omega), h7 i hi]; grind, fun j ha hb => ?_, smv_zero _, fun i hi => ?_, fun j ha hb => ?_, ?_, hne⟩
  · rw [scv_add]
    by_cases e : j = m
    · rw [e, h9]; exact hf
    · rw [h5 j (by omega) (by omega), h8 j ha (by omega)]; grind
  · obtain ⟨k, rfl⟩ : ∃ k, i = k + 1 := ⟨i - 1, by omega⟩
    rw [smv_succ]; exact h4 k (by omega)
  · obtain ⟨k, rfl⟩ : ∃ k, j = k + 1 := ⟨j - 1, by omega⟩
    rw [scv_mv]; exact h5 k (by omega) (by omega)
  · rw [scv_mv]
/-- the row turned about is a polynomial -/
theorem stail_pev {F : Type} [Lean.Grind.Field F] (C : Nat → F) (L : Nat) (x : F) : stail C L x = pev (fun i => C (L - i)) (L + 1) x := by
  unfold stail pev
  rw [← gsum_rev (fun i => C i * x ^ (L - i)) (L + 1)]
  exact gsum_congr (fun i hi => by
    have e1 : L + 1 - 1 - i = L - i := by omega
    have e2 : L - (L - i) = i := by omega
    rw [e1, e2])
theorem BMI_last {F : Type} [Lean.Grind.Field F] {v : Nat} {X Y : Nat → F} (hd : ∀ i j, i < v → j < v → X i = X j → i = j) (hX : ∀ l, l < v → X l ≠ 0) (hY : ∀ l, l < v → Y l ≠ 0) {k L : Nat} {C D : Nat → F} {b : F} (h : BMI v (ssum v X Y) k L C D b) (hk : 2 * v ≤ k) : L = v ∧ ∀ l, l < v → stail C v (X l) = 0 := by
  obtain ⟨h1, h2, h3, h4, h5, h6, h7, h8, h9, h10⟩ := h
  have hz := stail_zero hd hX hY h4 (fun j ha hb => h5 j ha (by omega))
  have hL : L = v := by
    rcases Nat.lt_or_ge L v with hl | hl
    · exfalso
      have := proots (L + 1) (fun i => C (L - i)) X (fun i hi => by rw [← stail_pev]; exact hz i (by omega)) (fun i j hi hj e => hd i j (by omega) (by omega) e) L (by omega)
      have e : C (L - L) = 0 := this
      rw [Nat.sub_self, h3] at e
      exact Lean.Grind.Field.zero_ne_one e.symm
    · omega
  subst hL
  exact ⟨rfl, hz⟩
/-- no other power is a zero -/
theorem stail_only {F : Type} [Lean.Grind.Field F] {v : Nat} {X C : Nat → F} (hd : ∀ i j, i < v → j < v → X i = X j → i = j) (h0 : C 0 = 1) (hz : ∀ l, l < v → stail C v (X l) = 0) {x : F} (hx : stail C v x = 0) : ∃ l, l < v ∧ X l = x := by
  rcases Classical.em (∃ l, l < v ∧ X l = x) with h | h
  · exact h
  · exfalso
    have hx' : ∀ l, l < v → X l ≠ x := fun l hl e => h ⟨l, hl, e⟩
    have := proots (v + 1) (fun i => C (v - i)) (fun i => if i = v then x else X i) (fun i hi => by
      rw [← stail_pev]
      show stail C v (if i = v then x else X i) = 0
      by_cases e : i = v
      · rw [if_pos e]; exact hx
      · rw [if_neg e]; exact hz i (by omega)) (fun i j hi hj e => by
        have e : (if i = v then x else X i) = (if j = v then x else X j) := e
        by_cases ei : i = v
        · by_cases ej : j = v
          · omega
          · rw [if_pos ei, if_neg ej] at e; exact absurd e.symm (hx' j (by omega))
        · by_cases ej : j = v
          · rw [if_neg ei, if_pos ej] at e; exact absurd e (hx' i (by omega))
          · rw [if_neg ei, if_neg ej] at e; exact hd i j (by omega) (by omega) e) v (by omega)
    have e : C (v - v) = 0 := this
    rw [Nat.sub_self, h0] at e
    exact Lean.Grind.Field.zero_ne_one e.symm
/-- a polynomial at an inverse -/
theorem stail_inv {F : Type} [Lean.Grind.Field F] (C : Nat → F) (v : Nat) {x y : F} (h : x * y = 1) : stail C v x = x ^ v * pev C (v + 1) y := by
  unfold stail pev
  rw [← gsum_mul]
  exact gsum_congr (fun i hi => by
    have e : v = (v - i) + i := by omega
    have e2 : x ^ v = x ^ (v - i) * x ^ i := by rw [← gpow_add, ← e]
    have e3 : x ^ i * y ^ i = 1 := by rw [← gpow_mulp, h, gone_pow]
    rw [e2]; grind)
