theorem lm_product {F : Type} [Lean.Grind.Field F] {g : F → Int} {al : F} (hG : GOK g al) {σ : ZS} {post : Int → ZS → Prop} (hT : GFT g al (σ 7) (σ 8)) (a b : F) (h : post (g (a * b)) σ) : wm_product (g a) (g b) σ post := by
  refine ⟨hG.inr a, fun e => ?_, fun e => ⟨hG.inr b, fun e2 => ⟨hG.rg a, hG.rg b, ?_⟩, fun e2 => ?_⟩⟩
  · rw [(hG.e0 a).mp e] at h
    have e3 : (0 : F) * b = 0 := by grind
    rwa [e3, hG.z] at h
  · have := hT.mul (fun q => e ((hG.e0 a).mpr q)) (fun q => e2 ((hG.e0 b).mpr q))
    rw [this.2]
    exact ⟨⟨this.1.1, by omega⟩, h⟩
  · rw [(hG.e0 b).mp e2] at h
    have e3 : a * (0 : F) = 0 := by grind
    rwa [e3, hG.z] at h
theorem lm_quotient {F : Type} [Lean.Grind.Field F] {g : F → Int} {al : F} (hG : GOK g al) {σ : ZS} {post : Int → ZS → Prop} (hT : GFT g al (σ 7) (σ 8)) (a : F) {b : F} (hb : b ≠ 0) (h : post (g (a / b)) σ) : wm_quotient (g a) (g b) σ post := by
  refine ⟨hG.inr a, fun e => ⟨hG.rg a, hG.rg b, ?_⟩, fun e => ?_⟩
  · have := hT.div hG (fun q => e ((hG.e0 a).mpr q)) hb
    rw [this.2]
    exact ⟨⟨this.1.1, by omega⟩, h⟩
  · rw [(hG.e0 a).mp e] at h
    have e3 : (0 : F) / b = 0 := by grind
    rwa [e3, hG.z] at h
theorem lc_times {F : Type} [Lean.Grind.Field F] {g : F → Int} {al : F} (hG : GOK g al) {σ : ZS} {post : Int → ZS → Prop} (hT : GFT g al (σ 36) (σ 37)) (a b : F) (h : post (g (a * b)) σ) : wc_X3_times (g a) (g b) σ post := by
  refine ⟨hG.inr a, fun e => ?_, fun e => ⟨hG.inr b, fun e2 => ⟨hG.rg a, hG.rg b, ?_⟩, fun e2 => ?_⟩⟩
  · rw [(hG.e0 a).mp e] at h
    have e3 : (0 : F) * b = 0 := by grind
    rwa [e3, hG.z] at h
  · have := hT.mul (fun q => e ((hG.e0 a).mpr q)) (fun q => e2 ((hG.e0 b).mpr q))
    rw [this.2]
    exact ⟨⟨this.1.1, by omega⟩, h⟩
  · rw [(hG.e0 b).mp e2] at h
    have e3 : a * (0 : F) = 0 := by grind
    rwa [e3, hG.z] at h
theorem lc_over {F : Type} [Lean.Grind.Field F] {g : F → Int} {al : F} (hG : GOK g al) {σ : ZS} {post : Int → ZS → Prop} (hT : GFT g al (σ 36) (σ 37)) (a : F) {b : F} (hb : b ≠ 0) (h : post (g (a / b)) σ) : wc_X3_over (g a) (g b) σ post := by
  refine ⟨hG.inr a, fun e => ⟨hG.rg a, hG.rg b, ?_⟩, fun e => ?_⟩
  · have := hT.div hG (fun q => e ((hG.e0 a).mpr q)) hb
    rw [this.2]
    exact ⟨⟨this.1.1, by omega⟩, h⟩
  · rw [(hG.e0 a).mp e] at h
    have e3 : (0 : F) / b = 0 := by grind
    rwa [e3, hG.z] at h
/-- a row of numbers at a place, from its first on -/
def hor {F : Type} [Lean.Grind.Field F] (w : Nat → F) (x : F) : Nat → F
  | 0 => 0
  | n + 1 => hor w x n * x + w n
theorem hor_sum {F : Type} [Lean.Grind.Field F] (w : Nat → F) (x : F) : ∀ n, hor w x n = gsum (fun i => w i * x ^ (n - 1 - i)) n
  | 0 => rfl
  | n + 1 => by
    show hor w x n * x + w n = _
    rw [hor_sum w x n, gsum_succ, ← gsum_mulr]
    have : gsum (fun i => w i * x ^ (n - 1 - i) * x) n = gsum (fun i => w i * x ^ (n + 1 - 1 - i)) n := gsum_congr (fun i hi => by
      have e : n + 1 - 1 - i = (n - 1 - i) + 1 := by omega
      rw [e, gpow_succ]; grind)
    rw [this]
    have e : n + 1 - 1 - n = 0 := by omega
    rw [e, gpow_zero]; grind
theorem hor_congr {F : Type} [Lean.Grind.Field F] {w u : Nat → F} (x : F) : ∀ {n}, (∀ i, i < n → w i = u i) → hor w x n = hor u x n
  | 0, _ => rfl
  | n + 1, h => by show hor w x n * x + w n = hor u x n * x + u n; rw [hor_congr x (fun i hi => h i (by omega)), h n (by omega)]
/-- a row's sums -/
def syn {F : Type} [Lean.Grind.Field F] (al : F) (w : Nat → F) (n j : Nat) : F := hor w (al ^ (j + 1)) n
theorem lm_sum {F : Type} [Lean.Grind.Field F] {g : F → Int} {al : F} (hG : GOK g al) {σ : ZS} {post : Int → ZS → Prop} (hT : GFT g al (σ 7) (σ 8)) {k n : Nat} (hk : k < 70) (hn : n ≤ 256) (w : Nat → F) (hw : ∀ i : Nat, i < n → σ 17 i = g (w i)) (h25 : σ 0 25 = n)
    (h : ∀ r τ, zsame [16] σ τ → (∀ j : Nat, j < k → τ 16 ((j : Int) + 1) = g (syn al w n j)) → (r = 1 ∨ r = 0) → (r = 1 ↔ ∀ j, j < k → syn al w n j = 0) → post r τ) : wm_sum k σ post := by
  refine zfix_count k (fun j a => a.1 = (k : Int) ∧ a.2.2.1 = (j : Int) + 1 ∧ zsame [16] σ a.2.2.2 ∧ (∀ i : Nat, i < j → a.2.2.2 16 ((i : Int) + 1) = g (syn al w n i)) ∧ (a.2.1 = 1 ∨ a.2.1 = 0) ∧ (a.2.1 = 1 ↔ ∀ i, i < j → syn al w n i = 0)) ?_ ?_ ⟨rfl, rfl, zsame.refl _ _, fun i hi => absurd hi (Nat.not_lt_zero _), .inl rfl, fun _ i hi => absurd hi (Nat.not_lt_zero _), fun _ => rfl⟩
  · rintro C j ⟨v1, v2, v3, τ⟩ hj ⟨h1, h2, h3, h4, h5, h6⟩ hC
    dsimp only at h1 h2 h3 h4 h5 h6
    subst h1 h2
    refine ⟨InRs (by omega) (by omega), InRs (by omega) (by omega), fun q => by omega, fun _ => ?_⟩
    have t7 : τ 7 = σ 7 := h3 7 (by decide)
    have t8 : τ 8 = σ 8 := h3 8 (by decide)
    have t0 : τ 0 = σ 0 := h3 0 (by decide)
    have t17 : τ 17 = σ 17 := h3 17 (by decide)
    refine zfix_count n (fun i a => a = ((k : Int), v2, (j : Int) + 1, g (hor w (al ^ (j + 1)) i), (i : Int), τ)) ?_ ?_ (by rw [show hor w (al ^ (j + 1)) 0 = 0 from rfl, hG.z]; rfl)
    · rintro D i _ hi rfl hD
      refine ⟨InRs (by omega) (by omega), by rw [t0, h25]; exact InRs (by omega) (by omega), fun q => by rw [t0, h25] at q; omega, fun _ => ⟨⟨by omega, by omega⟩, ?_⟩⟩
      have e : τ 7 ((j : Int) + 1) = g (al ^ (j + 1)) := by rw [t7, ← hT.1 (j + 1) (by omega)]; rfl
      rw [e]
      refine lm_product hG (by rw [t7, t8]; exact hT) _ _ ⟨⟨by omega, by omega⟩, ?_⟩
      rintro _ rfl
      apply hD
      rw [t17, hw i hi, hG.x]
      have e2 : ((i : Int) + 1) = ((i + 1 : Nat) : Int) := rfl
      rw [e2]; rfl
    · rintro D _ rfl
      refine ⟨InRs (by omega) (by omega), by rw [t0, h25]; exact InRs (by omega) (by omega), fun _ => ⟨⟨by omega, by omega⟩, ?_⟩, fun q => by rw [t0, h25] at q; omega⟩
      rintro _ rfl
      have hs : zsame [16] σ (zst τ 16 ((j : Int) + 1) (g (hor w (al ^ (j + 1)) n))) := h3.st (by decide) _ _
      have hv : ∀ i : Nat, i < j + 1 → zst τ 16 ((j : Int) + 1) (g (hor w (al ^ (j + 1)) n)) 16 ((i : Int) + 1) = g (syn al w n i) := fun i hi => by
        rw [zst_at]
        by_cases e : i = j
        · subst e; rw [if_pos rfl]; rfl
        · rw [if_neg (by omega)]; exact h4 i (by omega)
      have hj1 : (j : Int) + 1 + 1 = ((j + 1 : Nat) : Int) + 1 := rfl
      refine ⟨by rcases h5 with e | e <;> rw [e] <;> exact InRs (by omega) (by omega), fun e0 => ?_, fun e0 => ⟨hG.inr _, fun e1 => ?_, fun e1 => ?_⟩⟩
      · refine hC _ ⟨rfl, hj1, hs, hv, .inr rfl, fun q => absurd q (by decide : ¬ (0 : Int) = 1), fun q => ?_⟩
        have := h6.mpr (fun i hi => q i (by omega)); omega
      · refine hC _ ⟨rfl, hj1, hs, hv, .inr rfl, fun q => absurd q (by decide : ¬ (0 : Int) = 1), fun q => ?_⟩
        exact absurd ((hG.e0 _).mpr (q j (by omega))) e1
      · refine hC _ ⟨rfl, hj1, hs, hv, .inl rfl, fun _ i hi => ?_, fun _ => rfl⟩
        by_cases e : i = j
        · subst e; exact (hG.e0 _).mp e1
        · exact h6.mp (by rcases h5 with q | q; exact q; exact absurd q e0) i (by omega)
  · rintro C ⟨v1, v2, v3, τ⟩ ⟨h1, h2, h3, h4, h5, h6⟩
    dsimp only at h1 h2 h3 h4 h5 h6
    subst h1 h2
    refine ⟨InRs (by omega) (by omega), InRs (by omega) (by omega), fun _ => ⟨by omega, ?_⟩, fun q => by omega⟩
    exact h v2 τ h3 h4 h5 h6
theorem lc_isRight {F : Type} [Lean.Grind.Field F] {g : F → Int} {al : F} (hG : GOK g al) {σ : ZS} {post : Int → ZS → Prop} (hT : GFT g al (σ 36) (σ 37)) {k n : Nat} (hk : k ≤ 68) (hn : n ≤ 256) (w : Nat → F) (hw : ∀ i : Nat, i < n → σ 39 i = g (w i))
    (h : ∀ r τ, zsame [40] σ τ → (∀ j : Nat, j < k → τ 40 (j : Int) = g (syn al w n j)) → (r = 1 ∨ r = 0) → (r = 1 ↔ ∀ j, j < k → syn al w n j = 0) → post r τ) : wc_X3_isRight n k σ post := by
  refine zfix_count k (fun j a => a.1 = (n : Int) ∧ a.2.1 = (k : Int) ∧ a.2.2.2.1 = (j : Int) ∧ zsame [40] σ a.2.2.2.2 ∧ (∀ i : Nat, i < j → a.2.2.2.2 40 (i : Int) = g (syn al w n i)) ∧ (a.2.2.1 = 1 ∨ a.2.2.1 = 0) ∧ (a.2.2.1 = 1 ↔ ∀ i, i < j → syn al w n i = 0)) ?_ ?_ ⟨rfl, rfl, rfl, zsame.refl _ _, fun i hi => absurd hi (Nat.not_lt_zero _), .inl rfl, fun _ i hi => absurd hi (Nat.not_lt_zero _), fun _ => rfl⟩
  · rintro C j ⟨v1, v2, v3, v4, τ⟩ hj ⟨h1, h2, h2', h3, h4, h5, h6⟩ hC
    dsimp only at h1 h2 h2' h3 h4 h5 h6
    subst h1 h2 h2'
    refine ⟨InRs (by omega) (by omega), InRs (by omega) (by omega), fun q => by omega, fun _ => ?_⟩
    have t7 : τ 36 = σ 36 := h3 36 (by decide)
    have t8 : τ 37 = σ 37 := h3 37 (by decide)
    have t17 : τ 39 = σ 39 := h3 39 (by decide)
    refine zfix_count n (fun i a => a = ((n : Int), (k : Int), v3, (j : Int), g (hor w (al ^ (j + 1)) i), (i : Int), τ)) ?_ ?_ (by rw [show hor w (al ^ (j + 1)) 0 = 0 from rfl, hG.z]; rfl)
    · rintro D i _ hi rfl hD
      refine ⟨InRs (by omega) (by omega), InRs (by omega) (by omega), fun q => by omega, fun _ => ⟨⟨by omega, by omega⟩, ?_⟩⟩
      have e : τ 36 ((j : Int) + 1) = g (al ^ (j + 1)) := by rw [t7, ← hT.1 (j + 1) (by omega)]; rfl
      rw [e]
      refine lc_times hG (by rw [t7, t8]; exact hT) _ _ ⟨⟨by omega, by omega⟩, ?_⟩
      rintro _ rfl
      apply hD
      rw [t17, hw i hi, hG.x]
      have e2 : ((i : Int) + 1) = ((i + 1 : Nat) : Int) := rfl
      rw [e2]; rfl
    · rintro D _ rfl
      refine ⟨InRs (by omega) (by omega), InRs (by omega) (by omega), fun _ => ⟨⟨by omega, by omega⟩, ?_⟩, fun q => by omega⟩
      rintro _ rfl
      have hs : zsame [40] σ (zst τ 40 (j : Int) (g (hor w (al ^ (j + 1)) n))) := h3.st (by decide) _ _
      have hv : ∀ i : Nat, i < j + 1 → zst τ 40 (j : Int) (g (hor w (al ^ (j + 1)) n)) 40 (i : Int) = g (syn al w n i) := fun i hi => by
        rw [zst_at]
        by_cases e : i = j
        · subst e; rw [if_pos rfl]; rfl
        · rw [if_neg (by omega)]; exact h4 i (by omega)
      have hj1 : (j : Int) + 1 = ((j + 1 : Nat) : Int) := rfl
      refine ⟨by rcases h5 with e | e <;> rw [e] <;> exact InRs (by omega) (by omega), fun e0 => ?_, fun e0 => ⟨hG.inr _, fun e1 => ?_, fun e1 => ?_⟩⟩
      · refine hC _ ⟨rfl, rfl, hj1, hs, hv, .inr rfl, fun q => absurd q (by decide : ¬ (0 : Int) = 1), fun q => ?_⟩
        have := h6.mpr (fun i hi => q i (by omega)); omega
      · refine hC _ ⟨rfl, rfl, hj1, hs, hv, .inr rfl, fun q => absurd q (by decide : ¬ (0 : Int) = 1), fun q => ?_⟩
        exact absurd ((hG.e0 _).mpr (q j (by omega))) e1
      · refine hC _ ⟨rfl, rfl, hj1, hs, hv, .inl rfl, fun _ i hi => ?_, fun _ => rfl⟩
        by_cases e : i = j
        · subst e; exact (hG.e0 _).mp e1
        · exact h6.mp (by rcases h5 with q | q; exact q; exact absurd q e0) i (by omega)
  · rintro C ⟨v1, v2, v3, v4, τ⟩ ⟨h1, h2, h2', h3, h4, h5, h6⟩
    dsimp only at h1 h2 h2' h3 h4 h5 h6
    subst h1 h2 h2'
    refine ⟨InRs (by omega) (by omega), InRs (by omega) (by omega), fun _ => ⟨by omega, ?_⟩, fun q => by omega⟩
    exact h v3 τ h3 h4 h5 h6
