/-! what is wrong at a place -/
def fquo {F : Type} [Lean.Grind.Field F] (C : Nat → F) (x : F) (i : Nat) : F := gsum (fun j => C j * x ^ (i - j)) (i + 1)
theorem fquo_zero {F : Type} [Lean.Grind.Field F] (C : Nat → F) (x : F) : fquo C x 0 = C 0 := by
  unfold fquo; rw [gsum_succ, gsum_zero, Nat.sub_self, gpow_zero]; grind
theorem fquo_succ {F : Type} [Lean.Grind.Field F] (C : Nat → F) (x : F) (i : Nat) : fquo C x (i + 1) = x * fquo C x i + C (i + 1) := by
  unfold fquo
  rw [gsum_succ, Nat.sub_self, gpow_zero, ← gsum_mul]
  have : gsum (fun j => C j * x ^ (i + 1 - j)) (i + 1) = gsum (fun j => x * (C j * x ^ (i - j))) (i + 1) := gsum_congr (fun j hj => by
    have e : i + 1 - j = i - j + 1 := by omega
    rw [e, gpow_succ]; grind)
  rw [this]; grind
theorem fquo_tail {F : Type} [Lean.Grind.Field F] (C : Nat → F) (x : F) (v : Nat) : fquo C x v = stail C v x := rfl
theorem fquo_pev {F : Type} [Lean.Grind.Field F] (C : Nat → F) (x y : F) : ∀ n : Nat, (1 - x * y) * pev (fquo C x) n y = pev C (n + 1) y - fquo C x n * y ^ n
  | 0 => by unfold pev; rw [gsum_zero, gsum_succ, gsum_zero, gpow_zero, fquo_zero]; grind
  | n + 1 => by
    have ih := fquo_pev C x y n
    have e1 : pev (fquo C x) (n + 1) y = pev (fquo C x) n y + fquo C x n * y ^ n := rfl
    have e2 : pev C (n + 1 + 1) y = pev C (n + 1) y + C (n + 1) * y ^ (n + 1) := rfl
    rw [e1, e2, fquo_succ]
    have e3 : y ^ (n + 1) = y ^ n * y := gpow_succ _ _
    grind
/-- the odd coefficients -/
def fodd {F : Type} [Lean.Grind.Field F] (C : Nat → F) (y : F) (n : Nat) : F := gsum (fun i => if i % 2 = 1 then C i * y ^ i else 0) n
theorem fquo_odd {F : Type} [Lean.Grind.Field F] (h2 : ∀ a : F, a + a = 0) (C : Nat → F) {x y : F} (h : x * y = 1) : ∀ n : Nat, pev (fquo C x) n y = fodd C y (n + 1) + (if n % 2 = 1 then fquo C x n * y ^ n else 0)
  | 0 => by unfold pev fodd; rw [gsum_zero, gsum_succ, gsum_zero, if_neg (by omega), if_neg (by omega)]; grind
  | n + 1 => by
    have ih := fquo_odd h2 C h n
    have e1 : pev (fquo C x) (n + 1) y = pev (fquo C x) n y + fquo C x n * y ^ n := rfl
    have e2 : fodd C y (n + 1 + 1) = fodd C y (n + 1) + (if (n + 1) % 2 = 1 then C (n + 1) * y ^ (n + 1) else 0) := rfl
    have e3 : fquo C x (n + 1) * y ^ (n + 1) = fquo C x n * y ^ n + C (n + 1) * y ^ (n + 1) := by rw [fquo_succ, gpow_succ]; grind
    rw [e1, e2, ih]
    by_cases e : n % 2 = 1
    · have e4 : ¬ (n + 1) % 2 = 1 := by omega
      rw [if_pos e, if_neg e4, if_neg e4]
      have := h2 (fquo C x n * y ^ n)
      grind
    · have e4 : (n + 1) % 2 = 1 := by omega
      rw [if_neg e, if_pos e4, if_pos e4, e3]
      have := h2 (C (n + 1) * y ^ (n + 1))
      grind
def fome {F : Type} [Lean.Grind.Field F] (S C : Nat → F) (i : Nat) : F := gsum (fun j => S (i - j) * C j) (i + 1)
theorem fome_sum {F : Type} [Lean.Grind.Field F] (v : Nat) (X Y C : Nat → F) (i : Nat) : fome (ssum v X Y) C i = gsum (fun l => (Y l * X l) * fquo C (X l) i) v := by
  unfold fome
  have e : gsum (fun j => ssum v X Y (i - j) * C j) (i + 1) = gsum (fun j => gsum (fun l => C j * (Y l * X l ^ (i - j + 1))) v) (i + 1) := gsum_congr (fun j _ => by
    rw [gsum_mul]; show gsum _ v * C j = C j * gsum _ v; grind)
  rw [e, gsum_swap]
  exact gsum_congr (fun l _ => by
    unfold fquo
    rw [← gsum_mul]
    exact gsum_congr (fun j _ => by rw [gpow_succ]; grind))
/-- what is wrong, as the quotient of two sums -/
theorem forney {F : Type} [Lean.Grind.Field F] (h2 : ∀ a : F, a + a = 0) {v : Nat} {X Y C : Nat → F} (hd : ∀ i j, i < v → j < v → X i = X j → i = j) (hX : ∀ l, l < v → X l ≠ 0) (h0 : C 0 = 1) (hz : ∀ l, l < v → stail C v (X l) = 0) {m : Nat} (hm : m < v) {y : F} (hy : X m * y = 1) : pev (fome (ssum v X Y) C) v y = Y m * (X m * fodd C y (v + 1)) ∧ X m * fodd C y (v + 1) ≠ 0 := by
  have hC : ∀ l, l < v → ∀ y, X l * y = 1 → pev C (v + 1) y = 0 := fun l hl y hy => by
    have := hz l hl
    rw [stail_inv C v hy] at this
    exact gmul0 this (gpow_ne (hX l hl) v)
  have hQ : ∀ l, l < v → ∀ y, (1 - X l * y) * pev (fquo C (X l)) v y = pev C (v + 1) y := fun l hl y => by
    rw [fquo_pev, fquo_tail, hz l hl]; grind
  have hoff : ∀ a b, a < v → b < v → a ≠ b → ∀ y, X b * y = 1 → pev (fquo C (X a)) v y = 0 := fun a b ha hb hab y hy => by
    have e := hQ a ha y
    rw [hC b hb y hy] at e
    refine gmul0 e (fun e2 => hab (hd a b ha hb ?_))
    grind
  have hself : pev (fquo C (X m)) v y = fodd C y (v + 1) := by
    rw [fquo_odd h2 C hy, fquo_tail, hz m hm]
    split <;> grind
  have hup : pev (fome (ssum v X Y) C) v y = Y m * (X m * fodd C y (v + 1)) := by
    have e : pev (fome (ssum v X Y) C) v y = gsum (fun l => (Y l * X l) * pev (fquo C (X l)) v y) v := by
      unfold pev
      have e1 : gsum (fun i => fome (ssum v X Y) C i * y ^ i) v = gsum (fun i => gsum (fun l => (Y l * X l) * (fquo C (X l) i * y ^ i)) v) v := gsum_congr (fun i _ => by
        rw [fome_sum, ← gsum_mulr]; exact gsum_congr (fun l _ => by grind))
      rw [e1, gsum_swap]
      exact gsum_congr (fun l _ => by rw [gsum_mul])
    rw [e, gsum_one hm (fun i hi hne => by rw [hoff i m hi hm hne y hy]; grind), hself]; grind
  refine ⟨hup, fun e => ?_⟩
  have e1 : pev (fquo C (X m)) v y = 0 := by rw [hself]; exact gmul0 e (hX m hm)
  have := proots v (fquo C (X m)) (fun l => (X l)⁻¹) (fun l hl => by
    by_cases e2 : l = m
    · subst e2
      have : (X l)⁻¹ = y := by have := hX l hl; grind
      show pev _ v (X l)⁻¹ = 0
      rw [this]; exact e1
    · exact hoff m l hm hl (fun e3 => e2 e3.symm) _ (by have := hX l hl; grind)) (fun i j hi hj e3 => hd i j hi hj (by
        have a1 := hX i hi
        have a2 := hX j hj
        have e3 : (X i)⁻¹ = (X j)⁻¹ := e3
        grind)) 0 (by omega)
  rw [fquo_zero, h0] at this
  exact Lean.Grind.Field.zero_ne_one this.symm
