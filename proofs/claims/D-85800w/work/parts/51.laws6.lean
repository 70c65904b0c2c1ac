/-- the odd coefficients, one power less -/
def flow {F : Type} [Lean.Grind.Field F] (C : Nat → F) (y : F) (t : Nat) : F := gsum (fun j => C (2 * j + 1) * y ^ (2 * j)) t
theorem flow_odd {F : Type} [Lean.Grind.Field F] (C : Nat → F) {x y : F} (h : x * y = 1) : ∀ t, x * fodd C y (2 * t) = flow C y t ∧ x * fodd C y (2 * t + 1) = flow C y t
  | 0 => by
    unfold fodd flow
    rw [Nat.mul_zero, gsum_zero, gsum_zero, gsum_succ, gsum_zero, if_neg (by omega)]; constructor <;> grind
  | t + 1 => by
    have ih := (flow_odd C h t).2
    have e1 : fodd C y (2 * (t + 1)) = fodd C y (2 * t + 1) + C (2 * t + 1) * y ^ (2 * t + 1) := by
      unfold fodd
      rw [show 2 * (t + 1) = 2 * t + 1 + 1 from by omega, gsum_succ (fun i => if i % 2 = 1 then C i * y ^ i else 0) (2 * t + 1), if_pos (by omega)]
    have e2 : fodd C y (2 * (t + 1) + 1) = fodd C y (2 * (t + 1)) := by
      show gsum _ _ = gsum _ _
      rw [gsum_succ, if_neg (by omega)]; grind
    have e3 : flow C y (t + 1) = flow C y t + C (2 * t + 1) * y ^ (2 * t) := rfl
    have e4 : y ^ (2 * t + 1) = y ^ (2 * t) * y := gpow_succ _ _
    have e5 : x * fodd C y (2 * (t + 1)) = flow C y (t + 1) := by
      rw [e1, e3, ← ih, e4]; grind
    exact ⟨e5, by rw [e2]; exact e5⟩
theorem flow_all {F : Type} [Lean.Grind.Field F] (C : Nat → F) {x y : F} (h : x * y = 1) (v : Nat) : x * fodd C y (v + 1) = flow C y ((v + 1) / 2) := by
  rcases Nat.mod_two_eq_zero_or_one (v + 1) with e | e
  · have e2 : v + 1 = 2 * ((v + 1) / 2) := by omega
    have := (flow_odd C h ((v + 1) / 2)).1
    rwa [← e2] at this
  · have e2 : v + 1 = 2 * ((v + 1) / 2) + 1 := by omega
    have := (flow_odd C h ((v + 1) / 2)).2
    rwa [← e2] at this
theorem ginvp {F : Type} [Lean.Grind.Field F] {g : F → Int} {al : F} (hG : GOK g al) (p : Nat) : al ^ p * al ^ ((255 - p % 255) % 255) = 1 := by
  rw [hG.mod, ← hG.mod p, ← gpow_add]
  have : p % 255 + (255 - p % 255) = 255 := by omega
  rw [this, hG.p]
theorem lc_error {F : Type} [Lean.Grind.Field F] {g : F → Int} {al : F} (hG : GOK g al) {σ : ZS} {post : Int → ZS → Prop} (hT : GFT g al (σ 36) (σ 37)) {k p size : Nat} (hk : k ≤ 68) (hp : p < 256) (hs : size ≤ k) (S C : Nat → F) (h40 : ∀ j : Nat, j < k → σ 40 j = g (S j)) (h41 : ∀ j : Nat, j < 70 → σ 41 j = g (C j))
    (h0 : ∀ τ, zsame [44] σ τ → flow C (al ^ ((255 - p % 255) % 255)) ((size + 1) / 2) = 0 → post 0 τ)
    (h1 : ∀ τ, zsame [44] σ τ → flow C (al ^ ((255 - p % 255) % 255)) ((size + 1) / 2) ≠ 0 → post (g (pev (fome S C) size (al ^ ((255 - p % 255) % 255)) / flow C (al ^ ((255 - p % 255) % 255)) ((size + 1) / 2))) τ) : wc_X3_error p size σ post := by
  have ep : (255 : Int) - (p : Int) % 255 = ((255 - p % 255 : Nat) : Int) := by omega
  have ep2 : ((255 : Int) - (p : Int) % 255) % 255 = (((255 - p % 255) % 255 : Nat) : Int) := by omega
  obtain ⟨y, hy⟩ : ∃ y, y = al ^ ((255 - p % 255) % 255) := ⟨_, rfl⟩
  rw [← hy] at h0 h1
  refine ⟨InRs (by omega) (by omega), by omega, by rw [ep]; exact InRs (by omega) (by omega), by omega, by omega, ?_⟩
  rintro _ rfl
  have e36 : σ 36 (((255 : Int) - (p : Int) % 255) % 255) = g y := by rw [ep2, hT.1 _ (by omega), hy]
  rw [e36]
  refine zfix_count size (fun i a => ∃ τ : ZS, a = ((p : Int), (size : Int), g y, 0, 0, (i : Int), τ) ∧ zsame [44] σ τ ∧ ∀ j : Nat, j < i → τ 44 j = g (fome S C j)) ?_ ?_ ⟨σ, rfl, zsame.refl _ _, fun j hj => by omega⟩
  · rintro D i _ hi ⟨τ, rfl, g1, g2⟩ hD
    refine ⟨InRs (by omega) (by omega), InRs (by omega) (by omega), fun e => by omega, fun _ => ⟨by omega, ?_⟩⟩
    rintro _ rfl
    refine zfix_count (i + 1) (fun j a => ∃ υ : ZS, a = ((p : Int), (size : Int), g y, 0, 0, (i : Int), (j : Int), υ) ∧ zsame [44] σ υ ∧ (∀ j' : Nat, j' < i → υ 44 j' = g (fome S C j')) ∧ υ 44 i = g (gsum (fun j => S (i - j) * C j) j)) ?_ ?_ ⟨_, rfl, g1.st (by decide) _ _, fun j' hj' => by rw [zst_place (by omega)]; exact g2 j' hj', by rw [zst_self, gsum_zero, hG.z]⟩
    · rintro E j _ hj ⟨υ, rfl, k1, k2, k3⟩ hE
      refine ⟨InRs (by omega) (by omega), InRs (by omega) (by omega), fun e => by omega, fun _ => ⟨by omega, by omega, by omega, ?_⟩⟩
      have e1 : υ 40 ((i : Int) - (j : Int)) = g (S (i - j)) := by
        rw [k1 40 (by decide), ← h40 _ (by omega)]; congr 1; omega
      have e2 : υ 41 (j : Int) = g (C j) := by rw [k1 41 (by decide)]; exact h41 j (by omega)
      rw [e1, e2]
      refine lc_times hG (by rw [k1 36 (by decide), k1 37 (by decide)]; exact hT) _ _ ?_
      rintro _ rfl
      refine hE _ ⟨_, rfl, k1.st (by decide) _ _, fun j' hj' => by rw [zst_place (by omega)]; exact k2 j' hj', ?_⟩
      rw [zst_self, k3, hG.x, gsum_succ]
    · rintro E _ ⟨υ, rfl, k1, k2, k3⟩
      refine ⟨InRs (by omega) (by omega), InRs (by omega) (by omega), fun _ => ?_, fun e => by omega⟩
      refine hD _ ⟨υ, rfl, k1, fun j hj => ?_⟩
      by_cases e : j = i
      · rw [e]; exact k3
      · exact k2 j (by omega)
  · rintro D _ ⟨τ, rfl, g1, g2⟩
    have hT' : GFT g al (τ 36) (τ 37) := by rw [g1 36 (by decide), g1 37 (by decide)]; exact hT
    refine ⟨InRs (by omega) (by omega), InRs (by omega) (by omega), fun _ => ?_, fun e => by omega⟩
    refine zfix_count size (fun t a => a = ((p : Int), (size : Int), g y, g (pev (fun i => fome S C (size - t + i)) t y), 0, (size : Int) - 1 - (t : Int), τ)) ?_ ?_ (by rw [show pev (fun i => fome S C (size - 0 + i)) 0 y = 0 from rfl, hG.z]; rw [show (size : Int) - 1 - ((0 : Nat) : Int) = (size : Int) - 1 from by omega])
    · rintro E t _ ht rfl hE
      refine ⟨InRs (by omega) (by omega), fun e => by omega, fun _ => ?_⟩
      refine lc_times hG hT' _ _ ⟨by omega, ?_⟩
      rintro _ rfl
      have e1 : (size : Int) - 1 - (t : Int) = ((size - 1 - t : Nat) : Int) := by omega
      have e2 : zxor (g (pev (fun i => fome S C (size - t + i)) t y * y)) (τ 44 ((size : Int) - 1 - (t : Int))) = g (pev (fun i => fome S C (size - (t + 1) + i)) (t + 1) y) := by
        rw [e1, g2 _ (by omega), hG.x, pev_cons _ t]
        have e3 : (fun i => fome S C (size - (t + 1) + (i + 1))) = (fun i => fome S C (size - t + i)) := by
          funext i; congr 1; omega
        have e4 : size - (t + 1) + 0 = size - 1 - t := by omega
        rw [e3, e4]; congr 1; grind
      rw [e2]
      apply hE
      have e5 : (size : Int) - 1 - (t : Int) + -1 = (size : Int) - 1 - ((t + 1 : Nat) : Int) := by omega
      rw [e5]
    · rintro E _ rfl
      have eP : (fun i => fome S C (size - size + i)) = fome S C := by funext i; congr 1; omega
      rw [eP]
      refine ⟨InRs (by omega) (by omega), fun _ => ?_, fun e => by omega⟩
      refine zfix_count ((size + 1) / 2) (fun t a => a = ((p : Int), (size : Int), g (pev (fome S C) size y), g (flow C y t), 2 * (t : Int) + 1, τ)) ?_ ?_ (by rw [show flow C y 0 = 0 from rfl, hG.z]; rfl)
      · rintro G t _ ht rfl hGG
        have e1 : (255 - (p : Int) % 255) * (2 * (t : Int) + 1 - 1) = (((255 - p % 255) * (2 * t) : Nat) : Int) := by
          rw [ep]; push_cast; congr 1; omega
        have e2 : (255 - p % 255) * (2 * t) ≤ 255 * 68 := Nat.mul_le_mul (by omega) (by omega)
        refine ⟨InRs (by omega) (by omega), InRs (by omega) (by omega), fun e => by omega, fun _ => ⟨by omega, InRs (by omega) (by omega), by omega, ?_⟩⟩
        rw [e1]
        refine ⟨InRs (by omega) (by omega), by omega, by omega, ?_⟩
        have e3 : τ 41 (2 * (t : Int) + 1) = g (C (2 * t + 1)) := by rw [g1 41 (by decide)]; exact h41 (2 * t + 1) (by omega)
        have e4 : τ 36 ((((255 - p % 255) * (2 * t) : Nat) : Int) % 255) = g (y ^ (2 * t)) := by
          have e5 : (((255 - p % 255) * (2 * t) : Nat) : Int) % 255 = (((255 - p % 255) * (2 * t) % 255 : Nat) : Int) := by omega
          rw [e5, g1 36 (by decide), hT.1 _ (by omega), hG.mod, hy, hG.mod, gpow_pow]
        rw [e3, e4]
        refine lc_times hG hT' _ _ ?_
        rintro _ rfl
        rw [hG.x]
        refine hGG _ ?_
        have e6 : 2 * (t : Int) + 1 + 2 = 2 * ((t + 1 : Nat) : Int) + 1 := by omega
        rw [e6]; rfl
      · rintro G _ rfl
        refine ⟨InRs (by omega) (by omega), InRs (by omega) (by omega), fun _ => ⟨hG.inr _, fun e => ?_, fun e => ?_⟩, fun e => by omega⟩
        · have hne : flow C y ((size + 1) / 2) ≠ 0 := fun q => e ((hG.e0 _).mpr q)
          exact lc_over hG hT' _ hne (h1 τ g1 hne)
        · exact h0 τ g1 ((hG.e0 _).mp e)
theorem lc_mend {F : Type} [Lean.Grind.Field F] {g : F → Int} {al : F} (hG : GOK g al) {σ : ZS} {post : Int → ZS → Prop} (hT : GFT g al (σ 36) (σ 37)) {k n : Nat} (hk : k ≤ 68) (hn : n ≤ 255) (w : Nat → F) (hw : ∀ i : Nat, i < n → σ 39 i = g (w i))
    (h1 : ∀ c v pos, fixes al w n k c v pos → ∀ τ, zsame [39, 40, 41, 42, 43, 44] σ τ → (∀ i : Nat, i < n → τ 39 i = g (c i)) → post v τ)
    (h0 : (¬ ∃ c v pos, fixes al w n k c v pos) → ∀ τ, zsame [39, 40, 41, 42, 43, 44] σ τ → post (-1) τ) : wc_X3_mend n k σ post := by
  refine lc_isRight hG hT hk (by omega) w hw (fun r τ s1 s2 s3 s4 => ?_)
  have m1 : zsame [39, 40, 41, 42, 43, 44] σ τ := s1.mono (fun c hc => by simp at hc ⊢; omega)
  rintro -
  rcases s3 with rfl | rfl
  · have hz := s4.mp rfl
    refine ⟨fun e => absurd e (by decide), fun _ => ?_⟩
    exact h1 w 0 (fun _ => 0) ⟨hz, ⟨fun l hl => by omega, fun l m _ hm => by omega, fun i _ => ⟨fun e => absurd rfl e, fun ⟨l, hl, _⟩ => by omega⟩⟩, by omega⟩ τ m1 (fun i hi => by rw [s1 39 (by decide)]; exact hw i hi)
  · refine ⟨fun _ => ?_, fun e => absurd rfl e⟩
    refine lc_locator hG (by rw [s1 36 (by decide), s1 37 (by decide)]; exact hT) hk hn w s2 (fun L C υ l1 l2 l3 l4 => ?_)
    have m2 : zsame [39, 40, 41, 42, 43, 44] σ υ := m1.trans (l1.mono (fun c hc => by simp at hc ⊢; omega))
    refine ⟨InRs (by omega) (by omega), by omega, InRs (by omega) (by omega), InRs (by omega) (by omega), fun e => ?_, fun e => ?_⟩
    · have hL : 2 * L ≤ k := by omega
      refine zfix_count n (fun i a => ∃ (ω : ZS) (m : Nat) (u : Nat → F) (q : Nat → Nat), a = ((n : Int), (k : Int), (L : Int), (m : Int), (i : Int), ω) ∧ zsame [39, 44] υ ω ∧ (∀ j : Nat, j < n → ω 39 j = g (u j)) ∧ incr m q ∧ (∀ l, l < m → q l < i) ∧ (∀ j, j < n → w j ≠ u j → ∃ l, l < m ∧ q l = j) ∧ m ≤ i ∧ ∀ c v pos, fixes al w n k c v pos → (∀ j, j < i → u j = c j) ∧ (∀ j, i ≤ j → j < n → u j = w j) ∧ (∀ l, l < m → pos l < i) ∧ (∀ l, m ≤ l → l < v → i ≤ pos l) ∧ m ≤ v) ?_ ?_ ⟨υ, 0, w, fun _ => 0, rfl, zsame.refl _ _, fun j hj => by rw [l1 39 (by decide), s1 39 (by decide)]; exact hw j hj, fun l m _ hm => by omega, fun l hl => by omega, fun j _ e => absurd rfl e, by omega, fun c v pos _ => ⟨fun j hj => by omega, fun j _ _ => rfl, fun l hl => by omega, fun l _ _ => by omega, by omega⟩⟩
      · rintro D i _ hi ⟨ω, m, u, q, rfl, g1, g2, g3, g4, g5, g5', g6⟩ hD
        refine ⟨InRs (by omega) (by omega), InRs (by omega) (by omega), fun e => by omega, fun _ => ?_⟩
        rintro _ rfl
        have hpn : (n : Int) - 1 - (i : Int) = ((n - 1 - i : Nat) : Int) := by omega
        rw [hpn]
        obtain ⟨p, hp⟩ : ∃ p, p = n - 1 - i := ⟨_, rfl⟩
        rw [← hp]
        have hp255 : p < 255 := by omega
        obtain ⟨y, hy⟩ : ∃ y, y = al ^ ((255 - p % 255) % 255) := ⟨_, rfl⟩
        have hxy : al ^ p * y = 1 := by rw [hy]; exact ginvp hG p
        have ep : (255 : Int) - (p : Int) % 255 = ((255 - p % 255 : Nat) : Int) := by omega
        have ep2 : ((255 : Int) - (p : Int) % 255) % 255 = (((255 - p % 255) % 255 : Nat) : Int) := by omega
        have hT' : GFT g al (ω 36) (ω 37) := by rw [g1 36 (by decide), g1 37 (by decide), l1 36 (by decide), l1 37 (by decide), s1 36 (by decide), s1 37 (by decide)]; exact hT
        have w41 : ∀ j : Nat, j < 70 → ω 41 j = g (C j) := fun j hj => by rw [g1 41 (by decide)]; exact l2 j hj
        have w40 : ∀ j : Nat, j < k → ω 40 j = g (syn al w n j) := fun j hj => by rw [g1 40 (by decide), l1 40 (by decide)]; exact s2 j hj
        have hroot : ∀ c v pos, fixes al w n k c v pos → (pev C (L + 1) y = 0 ↔ ∃ l, l < v ∧ pos l = i) := fun c v pos hf => by
          obtain ⟨q1, q2, q3, q4⟩ := l4 c v pos hf
          subst q1
          have e1 : stail C L (al ^ p) = (al ^ p) ^ L * pev C (L + 1) y := stail_inv C L hxy
          constructor
          · intro e2
            rw [e2] at e1
            obtain ⟨l, hl, e3⟩ := stail_only (hf.dist hG hn) q2 q4 (x := al ^ p) (by rw [e1]; grind)
            have h3 := hf.2.1.1 l hl
            have := hG.d (by omega) hp255 e3
            exact ⟨l, hl, by omega⟩
          · rintro ⟨l, hl, e3⟩
            have e4 := q4 l hl
            have e5 : eX al n pos l = al ^ p := by unfold eX; rw [e3, hp]
            rw [e5, e1] at e4
            exact gmul0 e4 (gpow_ne (gpow_ne hG.ne _) _)
        refine zfix_count (L + 1) (fun t a => a = ((n : Int), (k : Int), (L : Int), (m : Int), (i : Int), (p : Int), g (pev (fun i => C (L + 1 - t + i)) t y), (L : Int) - (t : Int), ω)) ?_ ?_ (by rw [show pev (fun i => C (L + 1 - 0 + i)) 0 y = 0 from rfl, hG.z]; rw [show (L : Int) - ((0 : Nat) : Int) = (L : Int) from by omega])
        · rintro E t _ ht rfl hE
          refine ⟨InRs (by omega) (by omega), fun e => by omega, fun _ => ⟨InRs (by omega) (by omega), by omega, by rw [ep]; exact InRs (by omega) (by omega), by omega, by omega, ?_⟩⟩
          have e36 : ω 36 (((255 : Int) - (p : Int) % 255) % 255) = g y := by rw [ep2, hT'.1 _ (by omega), hy]
          rw [e36]
          refine lc_times hG hT' _ _ ⟨by omega, ?_⟩
          rintro _ rfl
          have e1 : (L : Int) - (t : Int) = ((L - t : Nat) : Int) := by omega
          have e2 : zxor (g (pev (fun i => C (L + 1 - t + i)) t y * y)) (ω 41 ((L : Int) - (t : Int))) = g (pev (fun i => C (L + 1 - (t + 1) + i)) (t + 1) y) := by
            rw [e1, w41 _ (by omega), hG.x, pev_cons _ t]
            have e3 : (fun i => C (L + 1 - (t + 1) + (i + 1))) = (fun i => C (L + 1 - t + i)) := by
              funext i; congr 1; omega
            have e4 : L + 1 - (t + 1) + 0 = L - t := by omega
            rw [e3, e4]; congr 1; grind
          rw [e2]
          apply hE
          have e5 : (L : Int) - (t : Int) + -1 = (L : Int) - ((t + 1 : Nat) : Int) := by omega
          rw [e5]
        · rintro E _ rfl
          have eP : (fun i => C (L + 1 - (L + 1) + i)) = C := by funext i; congr 1; omega
          rw [eP]
          refine ⟨InRs (by omega) (by omega), fun _ => ⟨hG.inr _, fun e2 => ⟨by omega, ?_⟩, fun e2 => ?_⟩, fun e => by omega⟩
          · have hz0 : pev C (L + 1) y = 0 := (hG.e0 _).mp e2
            have fin : ∀ (er : F) (κ : ZS), zsame [44] ω κ → (∀ c v pos, fixes al w n k c v pos → u i + er = c i) → ∀ σ8, σ8 = zst κ 39 (i : Int) (zxor (ω 39 (i : Int)) (g er)) → D ((n : Int), (k : Int), (L : Int), (m : Int) + 1, (i : Int) + 1, σ8) := by
              rintro er κ hκ her _ rfl
              refine hD _ ⟨_, m + 1, fun j => if j = i then u i + er else u j, fun l => if l = m then i else q l, rfl, (g1.trans (hκ.mono (fun c hc => by simp at hc ⊢; omega))).st (by decide) _ _, fun j hj => ?_, fun l l2 h1 h2 => ?_, fun l hl => ?_, fun j hj hne => ?_, by omega, fun c v pos hf => ?_⟩
              · rw [zst_at]
                dsimp only
                by_cases e3 : j = i
                · rw [if_pos (by omega), if_pos e3, g2 i hi, hG.x]
                · rw [if_neg (by omega), if_neg e3, hκ 39 (by decide)]; exact g2 j hj
              · dsimp only
                rw [if_neg (by omega)]
                by_cases e3 : l2 = m
                · rw [if_pos e3]; exact g4 l (by omega)
                · rw [if_neg e3]; exact g3 l l2 h1 (by omega)
              · dsimp only
                by_cases e3 : l = m
                · rw [if_pos e3]; omega
                · rw [if_neg e3]; have := g4 l (by omega); omega
              · dsimp only at hne
                by_cases e3 : j = i
                · exact ⟨m, by omega, by dsimp only; rw [if_pos rfl]; exact e3.symm⟩
                · rw [if_neg e3] at hne
                  obtain ⟨l, hl, e4⟩ := g5 j hj hne
                  exact ⟨l, by omega, by dsimp only; rw [if_neg (by omega)]; exact e4⟩
              · obtain ⟨a1, a2, a3, a4, a5⟩ := g6 c v pos hf
                obtain ⟨l, hl, e4⟩ := (hroot c v pos hf).mp hz0
                have hlm : l = m := by
                  rcases Nat.lt_trichotomy l m with e5 | e5 | e5
                  · have := a3 l e5; omega
                  · exact e5
                  · have := hf.2.1.2.1 m l e5 hl; have := a4 m (Nat.le_refl _) (by omega); omega
                subst hlm
                refine ⟨fun j hj => ?_, fun j h1 h2 => ?_, fun l' hl' => ?_, fun l' h1 h2 => ?_, by omega⟩
                · dsimp only
                  by_cases e3 : j = i
                  · rw [if_pos e3, e3]; exact her c v pos hf
                  · rw [if_neg e3]; exact a1 j (by omega)
                · dsimp only; rw [if_neg (by omega)]; exact a2 j (by omega) h2
                · by_cases e3 : l' = l
                  · subst e3; omega
                  · have := a3 l' (by omega); omega
                · have := hf.2.1.2.1 l l' (by omega) h2; omega
            have hforney : ∀ c v pos, fixes al w n k c v pos → flow C y ((L + 1) / 2) ≠ 0 ∧ u i + pev (fome (syn al w n) C) L y / flow C y ((L + 1) / 2) = c i := fun c v pos hf => by
              obtain ⟨a1, a2, a3, a4, a5⟩ := g6 c v pos hf
              obtain ⟨q1, q2, q3, q4⟩ := l4 c v pos hf
              subst q1
              obtain ⟨l, hl, e4⟩ := (hroot c L pos hf).mp hz0
              have e5 : eX al n pos l = al ^ p := by unfold eX; rw [e4, hp]
              have hy' : eX al n pos l * y = 1 := by rw [e5]; exact hxy
              obtain ⟨f1, f2⟩ := forney hG.t (hf.dist hG hn) (fixes.x0 hG) q2 q4 (Y := eY w c pos) hl hy'
              rw [flow_all C hy'] at f1 f2
              have e6 : pev (fome (ssum L (eX al n pos) (eY w c pos)) C) L y = pev (fome (syn al w n) C) L y := gsum_congr (fun j hj => by
                congr 1
                exact gsum_congr (fun j' hj' => by rw [hf.sums (by omega)]))
              rw [e6] at f1
              refine ⟨f2, ?_⟩
              rw [f1, a2 i (Nat.le_refl _) hi]
              have e7 : eY w c pos l * flow C y ((L + 1) / 2) / flow C y ((L + 1) / 2) = eY w c pos l := by grind
              rw [e7]
              unfold eY
              rw [e4]
              have := hG.t (w i)
              have := hG.t (c i)
              grind
            refine lc_error hG hT' hk (by omega) (by omega) (syn al w n) C w40 w41 (fun κ k1 k2 => ?_) (fun κ k1 k2 => ?_)
            · rw [← hy] at k2
              have := fin 0 κ k1 (fun c v pos hf => absurd k2 (hforney c v pos hf).1)
              rw [hG.z] at this
              exact this
            · rw [← hy] at k2 ⊢
              exact fin _ κ k1 (fun c v pos hf => (hforney c v pos hf).2)
          · refine hD _ ⟨ω, m, u, q, rfl, g1, g2, g3, fun l hl => by have := g4 l hl; omega, g5, by omega, fun c v pos hf => ?_⟩
            obtain ⟨a1, a2, a3, a4, a5⟩ := g6 c v pos hf
            have hno : ¬ ∃ l, l < v ∧ pos l = i := fun e3 => e2 ((hG.e0 _).mpr ((hroot c v pos hf).mpr e3))
            refine ⟨fun j hj => ?_, fun j h1 h2 => a2 j (by omega) h2, fun l hl => by have := a3 l hl; omega, fun l h1 h2 => ?_, a5⟩
            · by_cases e3 : j = i
              · rw [e3, a2 i (Nat.le_refl _) hi]
                rcases Classical.em (w i = c i) with e4 | e4
                · exact e4
                · exact absurd ((hf.2.1.2.2 i hi).mp e4) hno
              · exact a1 j (by omega)
            · have := a4 l h1 h2
              rcases Nat.lt_or_ge i (pos l) with e4 | e4
              · omega
              · exact absurd ⟨l, h2, by omega⟩ hno
      · rintro D _ ⟨ω, m, u, q, rfl, g1, g2, g3, g4, g5, g5', g6⟩
        have m3 : zsame [39, 40, 41, 42, 43, 44] σ ω := m2.trans (g1.mono (fun c hc => by simp at hc ⊢; omega))
        have hall : ∀ c v pos, fixes al w n k c v pos → m = v ∧ L = v ∧ ∀ j, j < n → u j = c j := fun c v pos hf => by
          obtain ⟨a1, a2, a3, a4, a5⟩ := g6 c v pos hf
          refine ⟨?_, (l4 c v pos hf).1, a1⟩
          rcases Nat.lt_or_ge m v with e2 | e2
          · have := a4 m (Nat.le_refl _) e2; have := hf.2.1.1 m e2; omega
          · omega
        refine ⟨InRs (by omega) (by omega), InRs (by omega) (by omega), fun _ => ⟨InRs (by omega) (by omega), InRs (by omega) (by omega), fun e2 => ?_, fun e2 => ?_⟩, fun e => by omega⟩
        · refine h0 (fun ⟨c, v, pos, hf⟩ => ?_) ω m3
          obtain ⟨a1, a2, _⟩ := hall c v pos hf
          omega
        · have hmL : m = L := by omega
          subst hmL
          refine lc_isRight hG (by rw [m3 36 (by decide), m3 37 (by decide)]; exact hT) hk (by omega) u g2 (fun r κ z1 z2 z3 z4 => ?_)
          have m4 : zsame [39, 40, 41, 42, 43, 44] σ κ := m3.trans (z1.mono (fun c hc => by simp at hc ⊢; omega))
          rintro -
          rcases z3 with rfl | rfl
          · refine ⟨fun e => absurd e (by decide), fun _ => ?_⟩
            obtain ⟨c, v, pos, hf⟩ := fixes.of2 (w := w) (z4.mp rfl) g3 g5 hL
            obtain ⟨a1, a2, a3⟩ := hall c v pos hf
            subst a2
            exact h1 c m pos hf κ m4 (fun i hi => by rw [z1 39 (by decide), g2 i hi, a3 i hi])
          · refine ⟨fun _ => ?_, fun e => absurd rfl e⟩
            refine h0 (fun ⟨c, v, pos, hf⟩ => ?_) κ m4
            obtain ⟨a1, a2, a3⟩ := hall c v pos hf
            have : ∀ j, j < k → syn al u n j = 0 := fun j hj => by
              rw [← hf.1 j hj]
              exact hor_congr _ (fun i hi => a3 i hi)
            exact absurd (z4.mpr this) (by decide)
    · refine h0 (fun ⟨c, v, pos, hf⟩ => ?_) υ m2
      have := (l4 c v pos hf).1
      have := hf.2.2
      omega
