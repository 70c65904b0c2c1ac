def vmat {F : Type} [Lean.Grind.Field F] (v : Nat) (X S : Nat → F) : Nat → Nat → F := fun r c => if c = v then S r else X c ^ (r + 1)
theorem lm_values {F : Type} [Lean.Grind.Field F] {g : F → Int} {al : F} (hG : GOK g al) {σ : ZS} {post : Int → ZS → Prop} (hT : GFT g al (σ 7) (σ 8)) {v k n : Nat} (hv : v ≤ 34) (hvk : v ≤ k) (hk : k ≤ 68) (hn : n ≤ 255) (h25 : σ 0 25 = n) (w : Nat → F) (hw : ∀ i : Nat, i < n → σ 17 i = g (w i)) (q : Nat → Nat) (hq : ∀ l, l < v → q l < n) (h19 : ∀ l : Nat, l < v → σ 19 l = q l) (S : Nat → F) (h16 : ∀ j : Nat, j < k → σ 16 ((j : Int) + 1) = g (S j))
    (h1 : ∀ τ a, zsame [0, 16, 17, 18, 20] σ τ → (∀ f, f ≠ 29 → τ 0 f = σ 0 f) → τ 0 29 = σ 0 29 + wcnt g a v → (∀ r, r < v → gsum (fun j => eX al n q j ^ (r + 1) * a j) v = S r) → (∀ i : Nat, i < n → τ 17 i = g (wadd w q a v i)) → (∀ j, j < k → syn al (wadd w q a v) n j = 0) → post 1 τ)
    (h0 : ∀ τ, zsame [0, 16, 17, 18, 20] σ τ → (∀ f, f ≠ 29 → τ 0 f = σ 0 f) → ((∃ x : Nat → F, (∃ j, j < v ∧ x j ≠ 0) ∧ ∀ r, r < v → gsum (fun j => eX al n q j ^ (r + 1) * x j) v = 0) ∨ ∃ a : Nat → F, (∀ r, r < v → gsum (fun j => eX al n q j ^ (r + 1) * a j) v = S r) ∧ ¬ ∀ j, j < k → syn al (wadd w q a v) n j = 0) → post 0 τ) : wm_values v k σ post := by
  have hm18 : ∀ τ, zsame [18] σ τ → zsame [0, 16, 17, 18, 20] σ τ := fun τ h => h.mono (fun c hc => by simp at hc ⊢; simp [hc])
  have hV : ∀ r (x : Nat → F), gsum (fun j => vmat v (eX al n q) S r j * x j) v = gsum (fun j => eX al n q j ^ (r + 1) * x j) v := fun r x => gsum_congr (fun j hj => by unfold vmat; rw [if_neg (by omega)])
  have hVv : ∀ r, vmat v (eX al n q) S r v = S r := fun r => if_pos rfl
  refine zfix_count v (fun r s => ∃ τ : ZS, s = ((v : Int), (k : Int), (r : Int), τ) ∧ zsame [18] σ τ ∧ ∀ r' c : Nat, r' < r → c ≤ v → τ 18 (mix v r' c) = g (vmat v (eX al n q) S r' c)) ?_ ?_ ⟨σ, rfl, zsame.refl _ _, fun r' c h _ => by omega⟩
  · rintro C r _ hr ⟨τ, rfl, hs, hM⟩ hC
    refine ⟨InRs (by omega) (by omega), InRs (by omega) (by omega), fun e => by omega, fun _ => ?_⟩
    refine zfix_count v (fun c s => ∃ υ : ZS, s = ((v : Int), (k : Int), (r : Int), (c : Int), υ) ∧ zsame [18] σ υ ∧ ∀ r' c' : Nat, (r' < r ∧ c' ≤ v ∨ r' = r ∧ c' < c) → υ 18 (mix v r' c') = g (vmat v (eX al n q) S r' c')) ?_ ?_ ⟨τ, rfl, hs, fun r' c' h => by rcases h with h | h; exact hM r' c' h.1 h.2; omega⟩
    · rintro D c _ hc ⟨υ, rfl, hs2, hM2⟩ hD
      have t7 : υ 7 = σ 7 := hs2 7 (by decide)
      have t0 : υ 0 = σ 0 := hs2 0 (by decide)
      have t19 : υ 19 (c : Int) = q c := by rw [hs2 19 (by decide)]; exact h19 c hc
      have hqc := hq c hc
      have e1 : ((r : Int) + 1) * ((υ 0 25 - 1) - υ 19 (c : Int)) = (((r + 1) * (n - 1 - q c) : Nat) : Int) := by
        rw [t0, h25, t19]
        have : (n : Int) - 1 - (q c : Int) = ((n - 1 - q c : Nat) : Int) := by omega
        rw [this]; push_cast; rfl
      have e2 : (r + 1) * (n - 1 - q c) ≤ 34 * 255 := Nat.mul_le_mul (by omega) (by omega)
      refine ⟨InRs (by omega) (by omega), InRs (by omega) (by omega), fun e => by omega, fun _ => ⟨by omega, ?_⟩⟩
      rw [e1]
      refine ⟨InRs (by omega) (by omega), by omega, by omega, mix_in hv hr (by omega), ?_⟩
      rintro _ rfl
      have e3 : υ 7 ((((r + 1) * (n - 1 - q c) : Nat) : Int) % 255) = g (vmat v (eX al n q) S r c) := by
        have e4 : (((r + 1) * (n - 1 - q c) : Nat) : Int) % 255 = (((r + 1) * (n - 1 - q c) % 255 : Nat) : Int) := by omega
        rw [e4, t7, hT.1 _ (by omega), hG.mod]
        unfold vmat eX
        rw [if_neg (by omega), gpow_pow, Nat.mul_comm]
      rw [e3]
      refine hD _ ⟨_, rfl, hs2.st (by decide) _ _, fun r' c' h => ?_⟩
      show zst υ 18 (mix v r c) _ 18 (mix v r' c') = _
      rw [zst_at]
      by_cases e : r' = r ∧ c' = c
      · rw [e.1, e.2, if_pos rfl]
      · rw [if_neg (fun q2 => by have := mix_inj (by omega) (by omega) q2; omega)]
        exact hM2 r' c' (by omega)
    · rintro D _ ⟨υ, rfl, hs2, hM2⟩
      refine ⟨InRs (by omega) (by omega), InRs (by omega) (by omega), fun _ => ⟨by omega, mix_in hv hr (by omega), ?_⟩, fun e => by omega⟩
      rintro _ rfl
      refine hC _ ⟨_, rfl, hs2.st (by decide) _ _, fun r' c' h1 h2 => ?_⟩
      show zst υ 18 (mix v r v) _ 18 (mix v r' c') = _
      rw [zst_at]
      by_cases e : r' = r ∧ c' = v
      · have e3 : υ 16 (1 + (r : Int)) = g (S r) := by rw [hs2 16 (by decide), Int.add_comm]; exact h16 r (by omega)
        rw [e.1, e.2, if_pos rfl, hVv]; exact e3
      · rw [if_neg (fun q2 => by have := mix_inj (by omega) (by omega) q2; omega)]
        exact hM2 r' c' (by omega)
  · rintro C _ ⟨τ, rfl, hs, hM⟩
    have t7 : τ 7 = σ 7 := hs 7 (by decide)
    have t8 : τ 8 = σ 8 := hs 8 (by decide)
    refine ⟨InRs (by omega) (by omega), InRs (by omega) (by omega), fun _ => ?_, fun e => by omega⟩
    refine lm_solve hG (by rw [t7, t8]; exact hT) hv (M0 := vmat v (eX al n q) S) (fun r c hr hc => hM r c hr hc) (fun υ hυ a ha hsol _ => ?_) (fun υ hυ hx => ?_)
    · have hs3 : zsame [18, 20] σ υ := (hs.mono (fun c hc => by simp at hc ⊢; simp [hc])).trans hυ
      rintro -
      refine ⟨fun _ => ?_, fun e => absurd e (by decide)⟩
      have hsol2 : ∀ r, r < v → gsum (fun j => eX al n q j ^ (r + 1) * a j) v = S r := fun r hr => by rw [← hV r a, hsol r hr, hVv]
      refine zfix_count v (fun j s => ∃ ω : ZS, s = ((v : Int), (k : Int), (j : Int), ω) ∧ zsame [0, 17, 18, 20] σ ω ∧ ω 20 = υ 20 ∧ (∀ f, f ≠ 29 → ω 0 f = σ 0 f) ∧ ω 0 29 = σ 0 29 + wcnt g a j ∧ ∀ i : Nat, i < n → ω 17 i = g (wadd w q a j i)) ?_ ?_ ⟨υ, rfl, hs3.mono (fun c hc => by simp at hc ⊢; omega), rfl, fun f _ => by rw [hs3 0 (by decide)], by rw [hs3 0 (by decide)]; show _ = _ + 0; omega, fun i hi => by
        rw [hs3 17 (by decide), hw i hi]; congr 1; show w i = w i + 0; grind⟩
      · rintro D j _ hj ⟨ω, rfl, g1, g2, g3, g4, g5⟩ hD
        have t19 : ω 19 (j : Int) = q j := by rw [g1 19 (by decide)]; exact h19 j hj
        have hqj := hq j hj
        refine ⟨InRs (by omega) (by omega), InRs (by omega) (by omega), fun e => by omega, fun _ => ⟨by omega, by rw [t19]; omega, ?_⟩⟩
        rintro _ rfl
        have e20 : zst ω 17 (ω 19 (j : Int)) (zxor (ω 17 (ω 19 (j : Int))) (ω 20 (j : Int))) 20 (j : Int) = g (a j) := by
          rw [zst_cell (by decide), g2]; exact ha j hj
        have e29 : zst ω 17 (ω 19 (j : Int)) (zxor (ω 17 (ω 19 (j : Int))) (ω 20 (j : Int))) 0 29 = σ 0 29 + wcnt g a j := by
          rw [zst_cell (by decide)]; exact g4
        have hnew : ∀ i : Nat, i < n → zst ω 17 (ω 19 (j : Int)) (zxor (ω 17 (ω 19 (j : Int))) (ω 20 (j : Int))) 17 i = g (wadd w q a (j + 1) i) := fun i hi => by
          rw [zst_at, t19, g2, ha j hj]
          have ew : wadd w q a (j + 1) i = wadd w q a j i + (if q j = i then a j else 0) := by
            unfold wadd; rw [gsum_succ]; grind
          by_cases e : q j = i
          · rw [if_pos (by omega), e, g5 i hi, hG.x, ew, if_pos e]
          · rw [if_neg (by omega), g5 i hi, ew, if_neg e]; congr 1; grind
        have hz : zsame [0, 17, 18, 20] σ (zst ω 17 (ω 19 (j : Int)) (zxor (ω 17 (ω 19 (j : Int))) (ω 20 (j : Int)))) := g1.st (by decide) _ _
        rw [e20, e29]
        refine ⟨hG.inr _, fun e => ?_, fun e => ?_⟩
        · rintro _ rfl
          refine hD _ ⟨_, rfl, hz.st (by decide) _ _, by rw [zst_row (by decide), zst_row (by decide)]; exact g2, fun f hf => by rw [zst_place hf, zst_cell (by decide)]; exact g3 f hf, ?_, fun i hi => by rw [zst_row (by decide)]; exact hnew i hi⟩
          rw [zst_self]
          show _ = _ + (wcnt g a j + if g (a j) = 0 then 0 else 1)
          rw [if_neg e]; omega
        · rintro _ rfl
          refine hD _ ⟨_, rfl, hz.st (by decide) _ _, by rw [zst_row (by decide), zst_row (by decide)]; exact g2, fun f hf => by rw [zst_place hf, zst_cell (by decide)]; exact g3 f hf, ?_, fun i hi => by rw [zst_row (by decide)]; exact hnew i hi⟩
          rw [zst_self]
          show _ = _ + (wcnt g a j + if g (a j) = 0 then 0 else 1)
          rw [if_pos e]; omega
      · rintro D _ ⟨ω, rfl, g1, g2, g3, g4, g5⟩
        refine ⟨InRs (by omega) (by omega), InRs (by omega) (by omega), fun _ => ?_, fun e => by omega⟩
        refine lm_sum hG (by rw [g1 7 (by decide), g1 8 (by decide)]; exact hT) (by omega) (by omega) (wadd w q a v) g5 (by rw [g3 25 (by decide)]; exact h25) (fun r κ k1 _ k3 k4 => ?_)
        have hz : zsame [0, 16, 17, 18, 20] σ κ := (g1.mono (fun c hc => by simp at hc ⊢; omega)).trans (k1.mono (fun c hc => by simp at hc ⊢; omega))
        have h00 : κ 0 = ω 0 := k1 0 (by decide)
        rintro -
        rcases k3 with rfl | rfl
        · exact h1 κ a hz (fun f hf => by rw [h00]; exact g3 f hf) (by rw [h00]; exact g4) hsol2 (fun i hi => by rw [k1 17 (by decide)]; exact g5 i hi) (k4.mp rfl)
        · exact h0 κ hz (fun f hf => by rw [h00]; exact g3 f hf) (.inr ⟨a, hsol2, fun e => absurd (k4.mpr e) (by decide)⟩)
    · have hs3 : zsame [0, 16, 17, 18, 20] σ υ := (hm18 τ hs).trans (hυ.mono (fun c hc => by simp at hc ⊢; omega))
      rintro -
      refine ⟨fun e => absurd rfl e, fun _ => h0 υ hs3 (fun f _ => by rw [hυ 0 (by decide), hs 0 (by decide)]) (.inl ?_)⟩
      obtain ⟨x, hx1, hx2⟩ := hx
      exact ⟨x, hx1, fun r hr => by rw [← hV r x]; exact hx2 r hr⟩
def hmat {F : Type} [Lean.Grind.Field F] (S : Nat → F) : Nat → Nat → F := fun r c => S (r + c)
theorem lm_mend {F : Type} [Lean.Grind.Field F] {g : F → Int} {al : F} (hG : GOK g al) {σ : ZS} {post : Int → ZS → Prop} (hT : GFT g al (σ 7) (σ 8)) {k n : Nat} (hk : k ≤ 68) (hn : n ≤ 255) (h25 : σ 0 25 = n) (w : Nat → F) (hw : ∀ i : Nat, i < n → σ 17 i = g (w i))
    (h1 : ∀ c v pos, fixes al w n k c v pos → ∀ τ, zsame [0, 16, 17, 18, 19, 20] σ τ → (∀ f, f ≠ 29 → τ 0 f = σ 0 f) → τ 0 29 = σ 0 29 + v → (∀ i : Nat, i < n → τ 17 i = g (c i)) → post 1 τ)
    (h0 : (¬ ∃ c v pos, fixes al w n k c v pos) → ∀ τ, zsame [0, 16, 17, 18, 19, 20] σ τ → (∀ f, f ≠ 29 → τ 0 f = σ 0 f) → post 0 τ) : wm_mend k σ post := by
  refine lm_sum hG hT (by omega) (by omega) w hw h25 (fun r τ s1 s2 s3 s4 => ?_)
  have up : ∀ υ, zsame [16, 18, 19, 20] σ υ → zsame [0, 16, 17, 18, 19, 20] σ υ := fun υ h => h.mono (fun c hc => by simp at hc ⊢; omega)
  rintro -
  rcases s3 with rfl | rfl
  · have hz := s4.mp rfl
    refine ⟨fun e => absurd e (by decide), fun _ => ?_⟩
    refine h1 w 0 (fun _ => 0) ⟨hz, ⟨fun l hl => by omega, fun l m _ hm => by omega, fun i _ => ⟨fun e => absurd rfl e, fun ⟨l, hl, _⟩ => by omega⟩⟩, by omega⟩ τ (up τ (s1.mono (fun c hc => by simp at hc ⊢; omega))) (fun f _ => by rw [s1 0 (by decide)]) (by rw [s1 0 (by decide)]; omega) (fun i hi => by rw [s1 17 (by decide)]; exact hw i hi)
  · have hnz : ¬ ∀ j, j < k → syn al w n j = 0 := fun e => absurd (s4.mpr e) (by decide)
    refine ⟨fun _ => ⟨InRs (by omega) (by omega), by omega, ?_⟩, fun e => absurd rfl e⟩
    rintro _ rfl
    have hk2 : (k : Int) / 2 = ((k / 2 : Nat) : Int) := by omega
    rw [hk2]
    refine zfix_count (k / 2 + 1) (fun t s => (∃ τ : ZS, t ≤ k / 2 ∧ s = ((k : Int), ((k / 2 - t : Nat) : Int), 0, τ) ∧ zsame [16, 18, 19, 20] σ τ ∧ (∀ j : Nat, j < k → τ 16 ((j : Int) + 1) = g (syn al w n j)) ∧ ∀ c v pos, fixes al w n k c v pos → v ≤ k / 2 - t) ∨ ∃ (τ : ZS) (u : Nat) (a : Nat → F), 0 < u ∧ u ≤ k / 2 ∧ s = ((k : Int), (u : Int), 1, τ) ∧ zsame [16, 18, 19, 20] σ τ ∧ (∀ j : Nat, j < k → τ 16 ((j : Int) + 1) = g (syn al w n j)) ∧ (∀ i : Nat, i < u → τ 20 i = g (a i)) ∧ (∀ r, r < u → gsum (fun j => syn al w n (r + j) * a j) u = syn al w n (r + u)) ∧ ∀ c v pos, fixes al w n k c v pos → v = u) ?_ ?_ (.inl ⟨τ, Nat.zero_le _, rfl, s1.mono (fun c hc => by simp at hc ⊢; omega), s2, fun c v pos hf => by have := hf.2.2; omega⟩)
    all_goals (
      have found : ∀ (C : Int × Int × Int × ZS → Prop) (τ : ZS) (u : Nat) (a : Nat → F), 0 < u → u ≤ k / 2 → zsame [16, 18, 19, 20] σ τ → (∀ j : Nat, j < k → τ 16 ((j : Int) + 1) = g (syn al w n j)) → (∀ i : Nat, i < u → τ 20 i = g (a i)) → (∀ r, r < u → gsum (fun j => syn al w n (r + j) * a j) u = syn al w n (r + u)) → (∀ c v pos, fixes al w n k c v pos → v = u) → wbm_mend_16 post C ((k : Int), (u : Int), 1, τ) := by
        intro C τ u a u0 u1 g1 g2 g3 g4 g5
        have main : wm_mend_101 post (k : Int) (u : Int) 1 τ := by
          refine ⟨InRs (by omega) (by omega), fun e => absurd e (by decide), fun _ => ?_⟩
          have t0 : τ 0 = σ 0 := g1 0 (by decide)
          refine lm_places hG (by rw [g1 7 (by decide), g1 8 (by decide)]; exact hT) (by omega) hn (by rw [t0]; exact h25) a g3 (fun r4 υ p1 p2 p3 p4 => ?_)
          rintro -
          have p1' : zsame [16, 18, 19, 20] σ υ := g1.trans (p1.mono (fun c hc => by simp at hc ⊢; omega))
          have hzero : ∀ c v pos, fixes al w n k c v pos → r4 = 1 ∧ ∀ l : Nat, l < u → υ 19 l = pos l := fun c v pos hf => by
            have hvu := g5 c v pos hf
            subst hvu
            refine p4 pos hf.2.1.2.1 hf.2.1.1 (fun p hp => ?_)
            rw [pgz_answer hG.t (hf.dist hG hn) (fixes.x0 hG) hf.y0 (a := a) (fun i hi => by
              have e1 := g4 i hi
              have h2v := hf.2.2
              rw [hf.sums (by omega)] at e1
              rw [← e1]
              exact gsum_congr (fun j hj => by rw [hf.sums (by omega)])) (al ^ (n - 1 - p))]
            constructor
            · rintro ⟨l, hl, e⟩
              refine ⟨l, hl, ?_⟩
              have h3 := hf.2.1.1 l hl
              have := hG.d (by omega) (by omega) e
              omega
            · rintro ⟨l, hl, e⟩
              exact ⟨l, hl, by rw [← e]; rfl⟩
          rcases p2 with rfl | rfl
          · exact ⟨fun _ => h0 (fun ⟨c, v, pos, hf⟩ => absurd (hzero c v pos hf).1 (by decide)) υ (up υ p1') (fun f _ => by rw [p1' 0 (by decide)]), fun e => absurd rfl e⟩
          · refine ⟨fun e => absurd e (by decide), fun _ => ?_⟩
            obtain ⟨q, q1, q2, q3⟩ := p3 rfl
            have hqpos : ∀ c v pos, fixes al w n k c v pos → ∀ l, l < u → q l = pos l := fun c v pos hf l hl => by
              have := (hzero c v pos hf).2 l hl
              have := q3 l hl
              omega
            refine lm_values hG (by rw [p1' 7 (by decide), p1' 8 (by decide)]; exact hT) (v := u) (k := k) (by omega) (by omega) hk hn (by rw [p1' 0 (by decide)]; exact h25) w (fun i hi => by rw [p1' 17 (by decide)]; exact hw i hi) q q2 q3 (syn al w n) (fun j hj => by rw [p1 16 (by decide)]; exact g2 j hj) (fun κ b z1 z2 z3 z4 z5 z6 => ?_) (fun κ z1 z2 z3 => ?_)
            · rintro -
              refine ⟨fun e => absurd e (by decide), fun _ => ?_⟩
              have hz : zsame [0, 16, 17, 18, 19, 20] σ κ := (up υ p1').trans (z1.mono (fun c hc => by simp at hc ⊢; omega))
              obtain ⟨c0, v0, pos0, hf⟩ := fixes.of (k := k) z6 q1 (by omega)
              have hvu := g5 c0 v0 pos0 hf
              subst hvu
              have hX : ∀ l, l < v0 → eX al n q l = eX al n pos0 l := fun l hl => by unfold eX; rw [hqpos _ _ _ hf l hl]
              have hb : ∀ l, l < v0 → b l = eY w c0 pos0 l := pgz_values (hf.dist hG hn) (fixes.x0 hG) (fun i hi => by
                rw [← hf.sums (by omega), ← z4 i hi]
                exact gsum_congr (fun j hj => by rw [hX j hj]))
              refine h1 c0 v0 pos0 hf κ hz (fun f hff => by rw [z2 f hff, p1' 0 (by decide)]) ?_ (fun i hi => ?_)
              · rw [z3, wcnt_all hG (fun l hl => by rw [hb l hl]; exact hf.y0 l hl), p1' 0 (by decide)]
              · rw [z5 i hi, ← hf.add hG.t hi]
                congr 1
                unfold wadd
                congr 1
                exact gsum_congr (fun l hl => by rw [hqpos _ _ _ hf l hl, hb l hl])
            · rintro -
              refine ⟨fun _ => ?_, fun e => absurd rfl e⟩
              have hz : zsame [0, 16, 17, 18, 19, 20] σ κ := (up υ p1').trans (z1.mono (fun c hc => by simp at hc ⊢; omega))
              refine h0 ?_ κ hz (fun f hff => by rw [z2 f hff, p1' 0 (by decide)])
              rintro ⟨c0, v0, pos0, hf⟩
              have hvu := g5 c0 v0 pos0 hf
              subst hvu
              have hX : ∀ l, l < v0 → eX al n q l = eX al n pos0 l := fun l hl => by unfold eX; rw [hqpos _ _ _ hf l hl]
              rcases z3 with ⟨x, ⟨j, hj, hx⟩, hx2⟩ | ⟨b, hb1, hb2⟩
              · refine hx (pgz_one (hf.dist hG hn) (fixes.x0 hG) (fun i hi => ?_) j hj)
                rw [← hx2 i hi]
                exact gsum_congr (fun j hj => by rw [hX j hj])
              · have hb : ∀ l, l < v0 → b l = eY w c0 pos0 l := pgz_values (hf.dist hG hn) (fixes.x0 hG) (fun i hi => by
                  rw [← hf.sums (by omega), ← hb1 i hi]
                  exact gsum_congr (fun j hj => by rw [hX j hj]))
                refine hb2 (fun j hj => ?_)
                rw [← hf.1 j hj]
                refine hor_congr _ (fun i hi => ?_)
                rw [← hf.add hG.t hi]
                unfold wadd
                congr 1
                exact gsum_congr (fun l hl => by rw [hqpos _ _ _ hf l hl, hb l hl])
        exact ⟨InRs (by omega) (by omega), fun _ => main, fun _ => ⟨InRs (by omega) (by omega), fun _ => main, fun e => absurd e (by decide)⟩⟩)
    · rintro C t _ ht (⟨τ, hle, rfl, g1, g2, g3⟩ | ⟨τ, u, a, u0, u1, rfl, g1, g2, g3, g4, g5⟩) hC
      · refine ⟨InRs (by omega) (by omega), fun e => ⟨InR0, fun _ => h0 ?_ τ (up τ g1) (fun f _ => by rw [g1 0 (by decide)]), fun e2 => absurd rfl e2⟩, fun e => ⟨InR0, fun e2 => absurd rfl e2, fun _ => ?_⟩⟩
        · rintro ⟨c, v, pos, hf⟩
          have hv0 := g3 c v pos hf
          have hv0 : v = 0 := by omega
          subst hv0
          apply hnz
          intro j hj
          rw [hf.sums hj]; rfl
        · obtain ⟨u, hu⟩ : ∃ u, u = k / 2 - t := ⟨_, rfl⟩
          rw [← hu] at g3 e ⊢
          refine zfix_count u (fun r s => ∃ υ : ZS, s = ((k : Int), (u : Int), (r : Int), υ) ∧ zsame [18] τ υ ∧ ∀ r' c : Nat, r' < r → c ≤ u → υ 18 (mix u r' c) = g (hmat (syn al w n) r' c)) ?_ ?_ ⟨τ, rfl, zsame.refl _ _, fun r' c h _ => by omega⟩
          · rintro D r _ hr ⟨υ, rfl, q1, q2⟩ hD
            refine ⟨InRs (by omega) (by omega), InRs (by omega) (by omega), fun e => by omega, fun _ => ?_⟩
            refine zfix_count (u + 1) (fun c s => ∃ ω : ZS, s = ((k : Int), (u : Int), (r : Int), (c : Int), ω) ∧ zsame [18] τ ω ∧ ∀ r' c' : Nat, (r' < r ∧ c' ≤ u ∨ r' = r ∧ c' < c) → ω 18 (mix u r' c') = g (hmat (syn al w n) r' c')) ?_ ?_ ⟨υ, rfl, q1, fun r' c' h => by rcases h with h | h; exact q2 r' c' h.1 h.2; omega⟩
            · rintro E c _ hc ⟨ω, rfl, z1, z2⟩ hE
              refine ⟨InRs (by omega) (by omega), InRs (by omega) (by omega), fun e => by omega, fun _ => ⟨by omega, mix_in (by omega) hr (by omega), ?_⟩⟩
              rintro _ rfl
              refine hE _ ⟨_, rfl, z1.st (by decide) _ _, fun r' c' h => ?_⟩
              show zst ω 18 (mix u r c) _ 18 (mix u r' c') = _
              rw [zst_at]
              by_cases e : r' = r ∧ c' = c
              · have e3 : ω 16 ((1 + (r : Int)) + (c : Int)) = g (syn al w n (r + c)) := by
                  rw [z1 16 (by decide), ← g2 (r + c) (by omega)]; congr 1; omega
                rw [e.1, e.2, if_pos rfl]; exact e3
              · rw [if_neg (fun q2 => by have := mix_inj (by omega) (by omega) q2; omega)]
                exact z2 r' c' (by omega)
            · rintro E _ ⟨ω, rfl, z1, z2⟩
              refine ⟨InRs (by omega) (by omega), InRs (by omega) (by omega), fun _ => ?_, fun e => by omega⟩
              exact hD _ ⟨ω, rfl, z1, fun r' c h1 h2 => z2 r' c (by omega)⟩
          · rintro D _ ⟨υ, rfl, q1, q2⟩
            refine ⟨InRs (by omega) (by omega), InRs (by omega) (by omega), fun _ => ?_, fun e => by omega⟩
            have q1' : zsame [16, 18, 19, 20] σ υ := g1.trans (q1.mono (fun c hc => by simp at hc ⊢; omega))
            refine lm_solve hG (by rw [q1' 7 (by decide), q1' 8 (by decide)]; exact hT) (by omega) (M0 := hmat (syn al w n)) (fun r c hr hc => q2 r c hr hc) (fun ω z1 a z2 z3 z4 => ?_) (fun ω z1 z2 => ?_)
            · rintro -
              refine ⟨fun e => absurd e (by decide), fun _ => ?_⟩
              rintro _ rfl
              refine hC _ (.inr ⟨ω, u, a, by omega, by omega, by rw [Int.sub_zero], q1'.trans (z1.mono (fun c hc => by simp at hc ⊢; omega)), fun j hj => by rw [z1 16 (by decide), q1 16 (by decide)]; exact g2 j hj, z2, z3, fun c v pos hf => ?_⟩)
              have hvu := g3 c v pos hf
              rcases Nat.lt_or_ge v u with hlt | hge
              · exfalso
                obtain ⟨x, ⟨j, hj, hx⟩, hx2⟩ := pgz_more (X := eX al n pos) (Y := eY w c pos) hlt
                refine hx (z4 x (fun r hr => ?_) j hj)
                rw [← hx2 r hr]
                exact gsum_congr (fun j hj => by
                  show syn al w n (r + j) * x j = _
                  rw [hf.sums (by omega)])
              · omega
            · rintro -
              refine ⟨fun _ => ?_, fun e => absurd rfl e⟩
              rintro _ rfl
              refine hC _ (.inl ⟨ω, by omega, by congr 2; omega, q1'.trans (z1.mono (fun c hc => by simp at hc ⊢; omega)), fun j hj => by rw [z1 16 (by decide), q1 16 (by decide)]; exact g2 j hj, fun c v pos hf => ?_⟩)
              have hvu := g3 c v pos hf
              rcases Nat.lt_or_ge v u with hlt | hge
              · omega
              · exfalso
                have hvu2 : v = u := by omega
                subst hvu2
                obtain ⟨x, ⟨j, hj, hx⟩, hx2⟩ := z2
                refine hx (pgz_just (hf.dist hG hn) (fixes.x0 hG) hf.y0 (fun i hi => ?_) j hj)
                rw [← hx2 i hi]
                exact gsum_congr (fun j hj => by
                  show _ = syn al w n (i + j) * x j
                  rw [hf.sums (by omega)])
      · exact found C τ u a u0 u1 g1 g2 g3 g4 g5
    · rintro C _ (⟨τ, hle, _⟩ | ⟨τ, u, a, u0, u1, rfl, g1, g2, g3, g4, g5⟩)
      · omega
      · exact found C τ u a u0 u1 g1 g2 g3 g4 g5
