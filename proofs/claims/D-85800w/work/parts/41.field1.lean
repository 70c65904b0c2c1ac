/-! sums, polynomials' zeros, and rows of powers, over a field -/
def gsum {F : Type} [Lean.Grind.Field F] (f : Nat → F) : Nat → F
  | 0 => 0
  | n + 1 => gsum f n + f n
theorem gsum_zero {F : Type} [Lean.Grind.Field F] (f : Nat → F) : gsum f 0 = 0 := rfl
theorem gsum_succ {F : Type} [Lean.Grind.Field F] (f : Nat → F) (n : Nat) : gsum f (n + 1) = gsum f n + f n := rfl
theorem gsum_congr {F : Type} [Lean.Grind.Field F] {f g : Nat → F} : ∀ {n : Nat}, (∀ i, i < n → f i = g i) → gsum f n = gsum g n
  | 0, _ => rfl
  | n + 1, h => by
    rw [gsum_succ, gsum_succ, gsum_congr (fun i hi => h i (by omega)), h n (by omega)]
theorem gsum_nil {F : Type} [Lean.Grind.Field F] {f : Nat → F} : ∀ {n : Nat}, (∀ i, i < n → f i = 0) → gsum f n = 0
  | 0, _ => rfl
  | n + 1, h => by
    rw [gsum_succ, gsum_nil (fun i hi => h i (by omega)), h n (by omega)]; grind
theorem gsum_add {F : Type} [Lean.Grind.Field F] (f g : Nat → F) : ∀ n : Nat, gsum (fun i => f i + g i) n = gsum f n + gsum g n
  | 0 => by rw [gsum_zero, gsum_zero, gsum_zero]; grind
  | n + 1 => by rw [gsum_succ, gsum_succ, gsum_succ, gsum_add f g n]; grind
theorem gsum_sub {F : Type} [Lean.Grind.Field F] (f g : Nat → F) : ∀ n : Nat, gsum (fun i => f i - g i) n = gsum f n - gsum g n
  | 0 => by rw [gsum_zero, gsum_zero, gsum_zero]; grind
  | n + 1 => by rw [gsum_succ, gsum_succ, gsum_succ, gsum_sub f g n]; grind
theorem gsum_mul {F : Type} [Lean.Grind.Field F] (c : F) (f : Nat → F) : ∀ n : Nat, gsum (fun i => c * f i) n = c * gsum f n
  | 0 => by rw [gsum_zero, gsum_zero]; grind
  | n + 1 => by rw [gsum_succ, gsum_succ, gsum_mul c f n]; grind
theorem gsum_mulr {F : Type} [Lean.Grind.Field F] (c : F) (f : Nat → F) (n : Nat) : gsum (fun i => f i * c) n = gsum f n * c := by
  rw [← Lean.Grind.CommSemiring.mul_comm c, ← gsum_mul]; exact gsum_congr (fun i _ => by grind)
theorem gsum_head {F : Type} [Lean.Grind.Field F] (f : Nat → F) : ∀ n : Nat, gsum f (n + 1) = f 0 + gsum (fun i => f (i + 1)) n
  | 0 => by rw [gsum_succ, gsum_zero, gsum_zero]; grind
  | n + 1 => by rw [gsum_succ, gsum_head f n, gsum_succ (fun i => f (i + 1)) n]; grind
theorem gsum_swap {F : Type} [Lean.Grind.Field F] (f : Nat → Nat → F) (m : Nat) : ∀ n : Nat, gsum (fun i => gsum (fun j => f i j) m) n = gsum (fun j => gsum (fun i => f i j) n) m
  | 0 => by rw [gsum_zero]; exact (gsum_nil (fun i _ => rfl)).symm
  | n + 1 => by
    rw [gsum_succ, gsum_swap f m n, ← gsum_add]
    exact gsum_congr (fun i _ => rfl)
theorem gsum_cut {F : Type} [Lean.Grind.Field F] {f : Nat → F} {m : Nat} : ∀ {n : Nat}, m ≤ n → (∀ i, m ≤ i → i < n → f i = 0) → gsum f n = gsum f m
  | 0, h, _ => by rw [Nat.le_zero.mp h]
  | n + 1, h, hz => by
    by_cases e : m = n + 1
    · rw [e]
    · rw [gsum_succ, gsum_cut (by omega) (fun i hi hn => hz i hi (by omega)), hz n (by omega) (by omega)]; grind
theorem gsum_one {F : Type} [Lean.Grind.Field F] {f : Nat → F} {a : Nat} : ∀ {n : Nat}, a < n → (∀ i, i < n → i ≠ a → f i = 0) → gsum f n = f a
  | 0, h, _ => by omega
  | n + 1, h, hz => by
    by_cases e : a = n
    · subst e
      rw [gsum_succ, gsum_nil (fun i hi => hz i (by omega) (by omega))]; grind
    · rw [gsum_succ, gsum_one (by omega) (fun i hi hn => hz i (by omega) hn), hz n (by omega) (by omega)]; grind
theorem gsum_split {F : Type} [Lean.Grind.Field F] (f : Nat → F) (m : Nat) : ∀ n : Nat, gsum f (m + n) = gsum f m + gsum (fun i => f (m + i)) n
  | 0 => by rw [Nat.add_zero, gsum_zero]; grind
  | n + 1 => by rw [← Nat.add_assoc, gsum_succ, gsum_split f m n, gsum_succ]; grind
theorem gsum_rev {F : Type} [Lean.Grind.Field F] (f : Nat → F) : ∀ n : Nat, gsum (fun i => f (n - 1 - i)) n = gsum f n
  | 0 => rfl
  | n + 1 => by
    rw [gsum_head, gsum_succ, ← gsum_rev f n]
    have : gsum (fun i => f (n + 1 - 1 - (i + 1))) n = gsum (fun i => f (n - 1 - i)) n := gsum_congr (fun i _ => by congr 1; omega)
    rw [this]; show f (n - 0) + _ = _; rw [Nat.sub_zero]; grind
theorem gmul0 {F : Type} [Lean.Grind.Field F] {a b : F} (h : a * b = 0) (ha : a ≠ 0) : b = 0 := by grind
theorem gsub0 {F : Type} [Lean.Grind.Field F] {a b : F} (h : a - b = 0) : a = b := by grind
theorem gpow_succ {F : Type} [Lean.Grind.Field F] (a : F) (n : Nat) : a ^ (n + 1) = a ^ n * a := Lean.Grind.Semiring.pow_succ a n
theorem gpow_zero {F : Type} [Lean.Grind.Field F] (a : F) : a ^ 0 = 1 := Lean.Grind.Semiring.pow_zero a
theorem gpow_add {F : Type} [Lean.Grind.Field F] (a : F) (m : Nat) : ∀ n : Nat, a ^ (m + n) = a ^ m * a ^ n
  | 0 => by rw [gpow_zero]; grind
  | n + 1 => by rw [← Nat.add_assoc, gpow_succ, gpow_add a m n, gpow_succ]; grind
theorem gpow_mulp {F : Type} [Lean.Grind.Field F] (a b : F) : ∀ n : Nat, (a * b) ^ n = a ^ n * b ^ n
  | 0 => by rw [gpow_zero, gpow_zero, gpow_zero]; grind
  | n + 1 => by rw [gpow_succ, gpow_mulp a b n, gpow_succ, gpow_succ]; grind
theorem gone_pow {F : Type} [Lean.Grind.Field F] : ∀ n : Nat, (1 : F) ^ n = 1
  | 0 => by rw [gpow_zero]
  | n + 1 => by rw [gpow_succ, gone_pow n]; grind
theorem gpow_ne {F : Type} [Lean.Grind.Field F] {a : F} (h : a ≠ 0) : ∀ n : Nat, a ^ n ≠ 0
  | 0 => by rw [gpow_zero]; intro e; exact Lean.Grind.Field.zero_ne_one e.symm
  | n + 1 => by rw [gpow_succ]; intro e; exact h (gmul0 e (gpow_ne h n))
/-- a polynomial of n coefficients at a place -/
def pev {F : Type} [Lean.Grind.Field F] (p : Nat → F) (n : Nat) (x : F) : F := gsum (fun i => p i * x ^ i) n
theorem pev_cons {F : Type} [Lean.Grind.Field F] (p : Nat → F) (n : Nat) (x : F) : pev p (n + 1) x = p 0 + x * pev (fun i => p (i + 1)) n x := by
  unfold pev
  rw [gsum_head, gpow_zero, ← gsum_mul]
  have : gsum (fun i => p (i + 1) * x ^ (i + 1)) n = gsum (fun i => x * (p (i + 1) * x ^ i)) n := gsum_congr (fun i _ => by rw [gpow_succ]; grind)
  rw [this]; grind
theorem pev_nil {F : Type} [Lean.Grind.Field F] {p : Nat → F} {n : Nat} (h : ∀ i, i < n → p i = 0) (x : F) : pev p n x = 0 :=
  gsum_nil (fun i hi => by rw [h i hi]; grind)
theorem psynth {F : Type} [Lean.Grind.Field F] (a : F) : ∀ (n : Nat) (p : Nat → F), ∃ q : Nat → F, (∀ x, pev p (n + 1) x = pev p (n + 1) a + (x - a) * pev q n x) ∧ ((∀ i, i < n → q i = 0) → ∀ i, i < n → p (i + 1) = 0)
  | 0, p => ⟨fun _ => 0, fun x => by rw [pev_cons, pev_cons]; unfold pev; rw [gsum_zero, gsum_zero, gsum_zero]; grind, fun _ i hi => by omega⟩
  | n + 1, p => by
    obtain ⟨q, h1, h2⟩ := psynth a n (fun i => p (i + 1))
    refine ⟨fun i => if i = 0 then pev (fun i => p (i + 1)) (n + 1) a else q (i - 1), fun x => ?_, fun hq i hi => ?_⟩
    · rw [pev_cons p (n + 1) x, pev_cons p (n + 1) a, h1 x, pev_cons (fun i => if i = 0 then pev (fun i => p (i + 1)) (n + 1) a else q (i - 1)) n x]
      have e : pev (fun i => if i + 1 = 0 then pev (fun i => p (i + 1)) (n + 1) a else q (i + 1 - 1)) n x = pev q n x := by
        have e0 : (fun i => if i + 1 = 0 then pev (fun i => p (i + 1)) (n + 1) a else q (i + 1 - 1)) = q := by
          funext i; rw [if_neg (by omega), Nat.add_sub_cancel]
        rw [e0]
      rw [e, if_pos rfl]; grind
    · have hq' : ∀ i, i < n → q i = 0 := fun i hi => by
        have := hq (i + 1) (by omega)
        simpa using this
      have h3 := h2 hq'
      by_cases e : i = 0
      · subst e
        have h4 : pev (fun i => p (i + 1)) (n + 1) a = 0 := hq 0 (by omega)
        rw [pev_cons, pev_nil h3] at h4
        grind
      · have := h3 (i - 1) (by omega)
        have e2 : i - 1 + 1 + 1 = i + 1 := by omega
        rwa [e2] at this
/-- n coefficients, n zeros: all are 0 -/
theorem proots {F : Type} [Lean.Grind.Field F] : ∀ (n : Nat) (p : Nat → F) (r : Nat → F), (∀ i, i < n → pev p n (r i) = 0) → (∀ i j, i < n → j < n → r i = r j → i = j) → ∀ i, i < n → p i = 0
  | 0, _, _, _, _ => fun i hi => by omega
  | n + 1, p, r, h, hd => by
    obtain ⟨q, h1, h2⟩ := psynth (r n) n p
    have hq : ∀ i, i < n → q i = 0 := proots n q r (fun i hi => by
      have e := h1 (r i)
      rw [h i (by omega), h n (by omega)] at e
      have hne : r i - r n ≠ 0 := fun e2 => by
        have := hd i n (by omega) (by omega) (gsub0 e2)
        omega
      exact gmul0 (by grind) hne) (fun i j hi hj e => hd i j (by omega) (by omega) e)
    have h3 := h2 hq
    intro i hi
    by_cases e : i = 0
    · subst e
      have h4 := h n (by omega)
      rw [pev_cons, pev_nil h3] at h4
      grind
    · have := h3 (i - 1) (by omega)
      rwa [Nat.sub_add_cancel (by omega)] at this
/-- sums of powers that are all 0 -/
theorem pvander {F : Type} [Lean.Grind.Field F] : ∀ (v : Nat) (z X : Nat → F), (∀ m, m < v → gsum (fun l => z l * X l ^ m) v = 0) → (∀ i j, i < v → j < v → X i = X j → i = j) → ∀ l, l < v → z l = 0
  | 0, _, _, _, _ => fun i hi => by omega
  | v + 1, z, X, h, hd => by
    have h1 : ∀ l, l < v → z l * (X l - X v) = 0 := pvander v (fun l => z l * (X l - X v)) X (fun m hm => by
      have e1 := h (m + 1) (by omega)
      have e2 := h m (by omega)
      rw [gsum_succ] at e1 e2
      have e3 : gsum (fun l => z l * (X l - X v) * X l ^ m) v = gsum (fun l => z l * X l ^ (m + 1)) v - X v * gsum (fun l => z l * X l ^ m) v := by
        rw [← gsum_mul, ← gsum_sub]
        exact gsum_congr (fun i _ => by rw [gpow_succ]; grind)
      rw [e3]
      have e4 : X v ^ (m + 1) = X v ^ m * X v := gpow_succ _ _
      grind) (fun i j hi hj e => hd i j (by omega) (by omega) e)
    have h2 : ∀ l, l < v → z l = 0 := fun l hl => by
      have hne : X l - X v ≠ 0 := fun e2 => by
        have := hd l v (by omega) (by omega) (gsub0 e2)
        omega
      have := h1 l hl
      exact gmul0 (a := X l - X v) (by grind) hne
    intro l hl
    by_cases e : l = v
    · subst e
      have e2 := h 0 (by omega)
      rw [gsum_succ, gsum_nil (fun i hi => by rw [h2 i hi]; grind), gpow_zero] at e2
      grind
    · exact h2 l (by omega)
/-- a polynomial that is 0 at v places -/
theorem pvanish {F : Type} [Lean.Grind.Field F] (X : Nat → F) : ∀ v : Nat, ∃ p : Nat → F, p v = 1 ∧ (∀ i, v < i → p i = 0) ∧ ∀ l, l < v → pev p (v + 1) (X l) = 0
  | 0 => ⟨fun i => if i = 0 then 1 else 0, rfl, fun i hi => if_neg (by omega), fun l hl => by omega⟩
  | v + 1 => by
    obtain ⟨p, h1, h2, h3⟩ := pvanish X v
    have key : ∀ x, pev (fun i => (if i = 0 then 0 else p (i - 1)) - X v * p i) (v + 1 + 1) x = (x - X v) * pev p (v + 1) x := fun x => by
      have e1 : pev (fun i => (if i = 0 then 0 else p (i - 1)) - X v * p i) (v + 1 + 1) x = gsum (fun i => (if i = 0 then 0 else p (i - 1)) * x ^ i) (v + 1 + 1) - X v * gsum (fun i => p i * x ^ i) (v + 1 + 1) := by
        unfold pev
        rw [← gsum_mul, ← gsum_sub]
        exact gsum_congr (fun i _ => by grind)
      have e2 : gsum (fun i => p i * x ^ i) (v + 1 + 1) = pev p (v + 1) x := by
        rw [gsum_succ, h2 (v + 1) (by omega)]; unfold pev; grind
      have e3 : gsum (fun i => (if i = 0 then 0 else p (i - 1)) * x ^ i) (v + 1 + 1) = x * pev p (v + 1) x := by
        rw [gsum_head, if_pos rfl]
        unfold pev
        rw [← gsum_mul]
        have : gsum (fun i => (if i + 1 = 0 then 0 else p (i + 1 - 1)) * x ^ (i + 1)) (v + 1) = gsum (fun i => x * (p i * x ^ i)) (v + 1) := gsum_congr (fun i _ => by rw [if_neg (by omega), Nat.add_sub_cancel, gpow_succ]; grind)
        rw [this]; grind
      rw [e1, e2, e3]; grind
    refine ⟨fun i => (if i = 0 then 0 else p (i - 1)) - X v * p i, ?_, fun i hi => ?_, fun l hl => ?_⟩
    · show (if v + 1 = 0 then 0 else p (v + 1 - 1)) - X v * p (v + 1) = 1
      rw [if_neg (by omega), Nat.add_sub_cancel, h1, h2 (v + 1) (by omega)]; grind
    · show (if i = 0 then 0 else p (i - 1)) - X v * p i = 0
      rw [if_neg (by omega), h2 (i - 1) (by omega), h2 i (by omega)]; grind
    · rw [key]
      by_cases e : l = v
      · subst e; grind
      · rw [h3 l (by omega)]; grind
