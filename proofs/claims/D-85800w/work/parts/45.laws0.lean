/-! plain laws: loops by count, the field's numbers as whole numbers -/
theorem zfix_count {α : Type} {B : (α → Prop) → α → Prop} (n : Nat) (I : Nat → α → Prop) (hs : ∀ (C : α → Prop) j a, j < n → I j a → (∀ a', I (j + 1) a' → C a') → B C a) (he : ∀ (C : α → Prop) a, I n a → B C a) {a : α} (h : I 0 a) : ∃ N, zfix B N a := by
  have key : ∀ c j a, j + c = n → I j a → zfix B (c + 1) a := by
    intro c
    induction c with
    | zero => intro j a hj ha; obtain rfl : j = n := by omega
              exact he _ a ha
    | succ c ih => intro j a hj ha; exact hs _ j a (by omega) ha (fun a' ha' => ih (j + 1) a' (by omega) ha')
  exact ⟨n + 1, key n 0 a (by omega) h⟩
/-- apart from some cells two states are alike -/
def zsame (Q : List Nat) (σ τ : ZS) : Prop := ∀ q, q ∉ Q → τ q = σ q
theorem zsame.refl (Q : List Nat) (σ : ZS) : zsame Q σ σ := fun _ _ => rfl
theorem zsame.trans {Q : List Nat} {σ τ υ : ZS} (h1 : zsame Q σ τ) (h2 : zsame Q τ υ) : zsame Q σ υ := fun q hq => (h2 q hq).trans (h1 q hq)
theorem zsame.mono {Q R : List Nat} {σ τ : ZS} (h : zsame Q σ τ) (hR : ∀ q, q ∈ Q → q ∈ R) : zsame R σ τ := fun q hq => h q (fun e => hq (hR q e))
theorem zsame.st {Q : List Nat} {σ τ : ZS} (h : zsame Q σ τ) {q : Nat} (hq : q ∈ Q) (i v : Int) : zsame Q σ (zst τ q i v) := fun q' hq' => by
  have e : q' ≠ q := fun e => hq' (e ▸ hq)
  rw [zst_row e]; exact h q' hq'
theorem InRs {x : Int} (h1 : -2147483648 ≤ x) (h2 : x ≤ 2147483647) : InR x := ⟨h1, h2⟩
/-- the field's numbers told by whole numbers below 256, and one whose powers are all -/
def GOK {F : Type} [Lean.Grind.Field F] (g : F → Int) (al : F) : Prop :=
  (∀ a, 0 ≤ g a ∧ g a < 256) ∧ (∀ x : Int, 0 ≤ x → x < 256 → ∃ a, g a = x) ∧ (∀ a b, g a = g b → a = b) ∧ g 0 = 0 ∧ g 1 = 1 ∧ (∀ a b, zxor (g a) (g b) = g (a + b)) ∧ (∀ a : F, a + a = 0) ∧ al ≠ 0 ∧ al ^ 255 = 1 ∧ (∀ i j, i < 255 → j < 255 → al ^ i = al ^ j → i = j)
theorem GOK.rg {F : Type} [Lean.Grind.Field F] {g : F → Int} {al : F} (h : GOK g al) (a : F) : 0 ≤ g a ∧ g a < 256 := h.1 a
theorem GOK.inr {F : Type} [Lean.Grind.Field F] {g : F → Int} {al : F} (h : GOK g al) (a : F) : InR (g a) := ⟨by have := h.1 a; omega, by have := h.1 a; omega⟩
theorem GOK.inj {F : Type} [Lean.Grind.Field F] {g : F → Int} {al : F} (h : GOK g al) {a b : F} (e : g a = g b) : a = b := h.2.2.1 a b e
theorem GOK.z {F : Type} [Lean.Grind.Field F] {g : F → Int} {al : F} (h : GOK g al) : g 0 = 0 := h.2.2.2.1
theorem GOK.o {F : Type} [Lean.Grind.Field F] {g : F → Int} {al : F} (h : GOK g al) : g 1 = 1 := h.2.2.2.2.1
theorem GOK.x {F : Type} [Lean.Grind.Field F] {g : F → Int} {al : F} (h : GOK g al) (a b : F) : zxor (g a) (g b) = g (a + b) := h.2.2.2.2.2.1 a b
theorem GOK.t {F : Type} [Lean.Grind.Field F] {g : F → Int} {al : F} (h : GOK g al) : ∀ a : F, a + a = 0 := h.2.2.2.2.2.2.1
theorem GOK.ne {F : Type} [Lean.Grind.Field F] {g : F → Int} {al : F} (h : GOK g al) : al ≠ 0 := h.2.2.2.2.2.2.2.1
theorem GOK.p {F : Type} [Lean.Grind.Field F] {g : F → Int} {al : F} (h : GOK g al) : al ^ 255 = 1 := h.2.2.2.2.2.2.2.2.1
theorem GOK.d {F : Type} [Lean.Grind.Field F] {g : F → Int} {al : F} (h : GOK g al) {i j : Nat} (hi : i < 255) (hj : j < 255) (e : al ^ i = al ^ j) : i = j := h.2.2.2.2.2.2.2.2.2 i j hi hj e
theorem GOK.e0 {F : Type} [Lean.Grind.Field F] {g : F → Int} {al : F} (h : GOK g al) (a : F) : g a = 0 ↔ a = 0 := ⟨fun e => h.inj (e.trans h.z.symm), fun e => by rw [e]; exact h.z⟩
theorem GOK.sur {F : Type} [Lean.Grind.Field F] {g : F → Int} {al : F} (h : GOK g al) {x : Int} (h0 : 0 ≤ x) (h1 : x < 256) : ∃ a, g a = x := h.2.1 x h0 h1
theorem GOK.mod {F : Type} [Lean.Grind.Field F] {g : F → Int} {al : F} (h : GOK g al) (k : Nat) : al ^ (k % 255) = al ^ k := by
  have e : k = k % 255 + 255 * (k / 255) := by omega
  have key : ∀ m : Nat, al ^ (k % 255 + 255 * m) = al ^ (k % 255) := by
    intro m
    induction m with
    | zero => rfl
    | succ m ih =>
      have e2 : k % 255 + 255 * (m + 1) = (k % 255 + 255 * m) + 255 := by omega
      rw [e2, gpow_add, ih, h.p]; grind
  have := key (k / 255)
  rw [← e] at this
  exact this.symm
/-- tables of powers and degrees -/
def GFT {F : Type} [Lean.Grind.Field F] (g : F → Int) (al : F) (P D : Int → Int) : Prop := (∀ k : Nat, k < 510 → P k = g (al ^ k)) ∧ ∀ a : F, a ≠ 0 → ∃ k : Nat, k < 255 ∧ D (g a) = k ∧ al ^ k = a
theorem GFT.mul {F : Type} [Lean.Grind.Field F] {g : F → Int} {al : F} {P D : Int → Int} (h : GFT g al P D) {a b : F} (ha : a ≠ 0) (hb : b ≠ 0) : (0 ≤ D (g a) + D (g b) ∧ D (g a) + D (g b) < 510) ∧ P (D (g a) + D (g b)) = g (a * b) := by
  obtain ⟨i, hi, e1, e2⟩ := h.2 a ha
  obtain ⟨j, hj, e3, e4⟩ := h.2 b hb
  rw [e1, e3]
  refine ⟨⟨by omega, by omega⟩, ?_⟩
  have := h.1 (i + j) (by omega)
  rw [gpow_add, e2, e4] at this
  rw [← this]; rfl
theorem GFT.div {F : Type} [Lean.Grind.Field F] {g : F → Int} {al : F} (hG : GOK g al) {P D : Int → Int} (h : GFT g al P D) {a b : F} (ha : a ≠ 0) (hb : b ≠ 0) : (0 ≤ D (g a) + 255 - D (g b) ∧ D (g a) + 255 - D (g b) < 510) ∧ P (D (g a) + 255 - D (g b)) = g (a / b) := by
  obtain ⟨i, hi, e1, e2⟩ := h.2 a ha
  obtain ⟨j, hj, e3, e4⟩ := h.2 b hb
  rw [e1, e3]
  refine ⟨⟨by omega, by omega⟩, ?_⟩
  have := h.1 (i + 255 - j) (by omega)
  have e5 : al ^ (i + 255 - j) = a / b := by
    have e6 : al ^ (i + 255 - j) * b = a := by
      rw [← e4, ← gpow_add]
      have e7 : i + 255 - j + j = i + 255 := by omega
      rw [e7, gpow_add, hG.p, e2]; grind
    grind
  rw [e5] at this
  rw [← this]; congr 1; omega
