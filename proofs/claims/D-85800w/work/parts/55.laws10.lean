/-! blocks gathered and spread *(the component)* -/
theorem lc_gathers {F : Type} [Lean.Grind.Field F] {g : F → Int} {σ : ZS} {post : Int → ZS → Prop} (hC : TabC σ) {s b : Nat} (hs : s < 30) (hb : b < zBlk s) (W : Nat → F) (hW : ∀ i : Nat, i < zAll s → σ 74 i = g (W i)) (h : ∀ τ, zsame [39] σ τ → (∀ m : Nat, m < cn (zBlk s) b (zAll s) → τ 39 m = g (wstr W (zBlk s) b m)) → post (cn (zBlk s) b (zAll s)) τ) : wc_X1_gathers (2 + s) b σ post := by
  obtain ⟨t1, hst, t3, t4, t5, t6, t7⟩ := ztab s hs
  obtain ⟨a0, a1, a2, a3, a4, a5, a6, a7, a8, a9, a10⟩ := hC s hs
  have hn : cn (zBlk s) b (zAll s) ≤ 255 := cn_le hst t6
  have hsy : isSy (2 + s) := ⟨by omega, by omega⟩
  have e1 : (((σ (2 + s) 7 - (b : Int)) + σ (2 + s) 10) - 1) = ((zAll s + zBlk s - 1 - b : Nat) : Int) := by rw [a7, a10]; omega
  refine ⟨hsy, hsy, by rw [e1]; exact InRs (by omega) (by omega), by rw [e1]; omega, by rw [a10]; exact InRs (by omega) (by omega), by rw [a10]; omega, ?_⟩
  rw [e1, a10, natdiv]
  show ∃ N : Nat, zfix (wbc_X1_gathers_9 (2 + s) post) N ((b : Int), ((cn (zBlk s) b (zAll s) : Nat) : Int), 0, σ)
  obtain ⟨n, en⟩ : ∃ n, n = cn (zBlk s) b (zAll s) := ⟨_, rfl⟩
  rw [← en] at h hn ⊢
  refine zfix_count n (fun m a => ∃ τ : ZS, a = ((b : Int), (n : Int), (m : Int), τ) ∧ zsame [39] σ τ ∧ ∀ i : Nat, i < m → τ 39 i = g (wstr W (zBlk s) b i)) ?_ ?_ ⟨σ, rfl, zsame.refl _ _, fun i hi => by omega⟩
  · rintro C m _ hm ⟨τ, rfl, g1, g2⟩ hCC
    have hlt : b + m * zBlk s < zAll s := (cn_lt hst hb).mp (by omega)
    have e2 : (b : Int) + (m : Int) * τ (2 + s) 10 = ((b + m * zBlk s : Nat) : Int) := by
      rw [g1 (2 + s) (by simp; omega), a10]; push_cast; rfl
    refine ⟨InRs (by omega) (by omega), InRs (by omega) (by omega), fun e => by omega, fun _ => ⟨by rw [e2]; omega, by omega, ?_⟩⟩
    rintro _ rfl
    rw [e2]
    refine hCC _ ⟨_, rfl, g1.st (by decide) _ _, fun i hi => ?_⟩
    rw [zst_at]
    by_cases e : i = m
    · rw [if_pos (by omega), g1 74 (by decide), e]; exact hW _ hlt
    · rw [if_neg (by omega)]; exact g2 i (by omega)
  · rintro C _ ⟨τ, rfl, g1, g2⟩
    exact ⟨InRs (by omega) (by omega), InRs (by omega) (by omega), fun _ => h τ g1 g2, fun e => by omega⟩
theorem lc_spreads {F : Type} [Lean.Grind.Field F] {g : F → Int} {σ : ZS} {post : ZS → Prop} (hC : TabC σ) {s b : Nat} (hs : s < 30) (hb : b < zBlk s) (V c : Nat → F) (hV : ∀ i : Nat, i < zAll s → σ 74 i = g (V i)) (hc : ∀ m : Nat, m < cn (zBlk s) b (zAll s) → σ 39 m = g (c m)) (h : ∀ τ, zsame [74] σ τ → (∀ i : Nat, i < zAll s → τ 74 i = g (wspr V (zBlk s) b (cn (zBlk s) b (zAll s)) c i)) → post τ) : wc_X1_spreads (2 + s) b (cn (zBlk s) b (zAll s)) σ post := by
  obtain ⟨t1, hst, t3, t4, t5, t6, t7⟩ := ztab s hs
  obtain ⟨a0, a1, a2, a3, a4, a5, a6, a7, a8, a9, a10⟩ := hC s hs
  have hn : cn (zBlk s) b (zAll s) ≤ 255 := cn_le hst t6
  have hsy : isSy (2 + s) := ⟨by omega, by omega⟩
  obtain ⟨n, en⟩ : ∃ n, n = cn (zBlk s) b (zAll s) := ⟨_, rfl⟩
  rw [← en] at h hn hc ⊢
  refine ⟨hsy, zfix_count n (fun m a => ∃ τ : ZS, a = ((b : Int), (n : Int), (m : Int), τ) ∧ zsame [74] σ τ ∧ ∀ i : Nat, i < zAll s → τ 74 i = g (wspr V (zBlk s) b m c i)) ?_ ?_ ⟨σ, rfl, zsame.refl _ _, fun i hi => by rw [hV i hi]; unfold wspr; rw [if_neg (fun q => Nat.not_lt_zero _ q.2)]⟩⟩
  · rintro C m _ hm ⟨τ, rfl, g1, g2⟩ hCC
    have hlt : b + m * zBlk s < zAll s := (cn_lt hst hb).mp (by omega)
    have e2 : (b : Int) + (m : Int) * τ (2 + s) 10 = ((b + m * zBlk s : Nat) : Int) := by
      rw [g1 (2 + s) (by simp; omega), a10]; push_cast; rfl
    refine ⟨InRs (by omega) (by omega), InRs (by omega) (by omega), fun e => by omega, fun _ => ⟨by omega, by rw [e2]; omega, ?_⟩⟩
    rintro _ rfl
    rw [e2, g1 39 (by decide), hc m hm]
    refine hCC _ ⟨_, rfl, g1.st (by decide) _ _, fun i hi => ?_⟩
    rw [zst_at]
    by_cases e5 : i = b + m * zBlk s
    · obtain ⟨d1, d2⟩ := cn_dm (m := m) hst hb
      rw [if_pos (by omega), e5]; unfold wspr; rw [d1, d2, if_pos (by omega)]
    · rw [if_neg (by omega), g2 i hi]
      unfold wspr
      have d := (cn_dm2 (i := i) hst).2
      by_cases e6 : i % zBlk s = b ∧ i / zBlk s < m
      · rw [if_pos e6, if_pos (by omega)]
      · rw [if_neg e6, if_neg (fun q => by
          have e7 : i / zBlk s = m := by omega
          rw [e7, q.1] at d; omega)]
  · rintro C _ ⟨τ, rfl, g1, g2⟩
    exact ⟨InRs (by omega) (by omega), InRs (by omega) (by omega), fun _ => h τ g1 g2, fun e => by omega⟩
theorem lc_checksOf {σ : ZS} {post : Int → ZS → Prop} (hC : TabC σ) {s : Nat} (hs : s < 30) (h : post (zK s) σ) : wc_X5_checksOf (2 + s) σ post := by
  obtain ⟨t1, hst, t3, t4, t5, t6, t7⟩ := ztab s hs
  obtain ⟨a0, a1, a2, a3, a4, a5, a6, a7, a8, a9, a10⟩ := hC s hs
  refine ⟨⟨by omega, by omega⟩, by rw [a8]; exact InRs (by omega) (by omega), by rw [a8]; omega, by rw [a10]; exact InRs (by omega) (by omega), by rw [a10]; omega, ?_⟩
  rw [a8, a10, natdiv]; exact h
theorem lc_decode_55 {F : Type} [Lean.Grind.Field F] {g : F → Int} {al : F} (hG : GOK g al) {σ : ZS} {post : Int → ZS → Prop} (hT : GFT g al (σ 36) (σ 37)) (hC : TabC σ) {s : Nat} (hs : s < 30) (h17 : σ 0 17 = ((2 + s : Nat) : Int)) (W : Nat → F) (hW : ∀ i : Nat, i < zAll s → σ 74 i = g (W i))
    (h1 : fixG al (zBlk s) (zK s) (zAll s) W (zBlk s) → ∀ τ, zsame [39, 40, 41, 42, 43, 44, 74] σ τ → (∀ i : Nat, i < zAll s → τ 74 i = g (fixV al (zBlk s) (zK s) (zAll s) W (zBlk s) i)) → wc_X1_tells (zData s) τ (fun r6 σ5 => r6 = 0 ∨ r6 = 1 → ((¬ r6 = 0 → ∀ σ8 : ZS, σ8 = zst σ5 0 13 (fixT al (zBlk s) (zK s) (zAll s) W (zBlk s)) → post (σ8 0 12) σ8) ∧ (r6 = 0 → post (-2) σ5))))
    (h0 : ¬ fixG al (zBlk s) (zK s) (zAll s) W (zBlk s) → ∀ τ, zsame [39, 40, 41, 42, 43, 44, 74] σ τ → post (-1) τ) : ∃ N : Nat, zfix (wbc_X1_decode_55 post) N (0, 0, σ) := by
  obtain ⟨t1, hst, t3, t4, t5, t6, t7⟩ := ztab s hs
  obtain ⟨a0, a1, a2, a3, a4, a5, a6, a7, a8, a9, a10⟩ := hC s hs
  have hq : ∀ c, c ∈ [39, 40, 41, 42, 43, 44, 74] → c = 0 ∨ c = 1 ∨ 32 ≤ c := fun c hc => by simp at hc; omega
  have tn : (((2 + s : Nat) : Int)).toNat = 2 + s := Int.toNat_natCast _
  refine zfix_count (zBlk s) (fun b a => ∃ τ : ZS, a = ((fixT al (zBlk s) (zK s) (zAll s) W b : Int), (b : Int), τ) ∧ zsame [39, 40, 41, 42, 43, 44, 74] σ τ ∧ (∀ i : Nat, i < zAll s → τ 74 i = g (fixV al (zBlk s) (zK s) (zAll s) W b i)) ∧ fixG al (zBlk s) (zK s) (zAll s) W b) ?_ ?_ ⟨σ, rfl, zsame.refl _ _, hW, fun b hb => by omega⟩
  · rintro C b _ hb ⟨τ, rfl, g1, g2, g3⟩ hCC
    have x17 : τ 0 17 = ((2 + s : Nat) : Int) := by rw [g1 0 (by decide)]; exact h17
    have hCt : TabC τ := hC.same g1 hq
    have x10 : τ (2 + s) 10 = zBlk s := (hCt s hs).2.2.2.2.2.2.2.2.2.2
    refine ⟨by omega, InRs (by omega) (by omega), by rw [x17, tn, x10]; exact InRs (by omega) (by omega), fun e => by rw [x17, tn, x10] at e; omega, fun _ => ?_⟩
    rw [x17, tn]
    refine lc_gathers hCt hs hb _ g2 (fun υ k1 k2 => ?_)
    have m1 : zsame [39, 40, 41, 42, 43, 44, 74] σ υ := g1.trans (k1.mono (fun c hc => by simp at hc ⊢; omega))
    have y17 : υ 0 17 = ((2 + s : Nat) : Int) := by rw [k1 0 (by decide)]; exact x17
    refine ⟨by omega, ?_⟩
    rw [y17, tn]
    refine lc_checksOf (hC.same m1 hq) hs ?_
    have hn255 : cn (zBlk s) b (zAll s) ≤ 255 := cn_le hst t6
    have hT2 : GFT g al (υ 36) (υ 37) := by rw [m1 36 (by decide), m1 37 (by decide)]; exact hT
    have fin1 : fixOK al (wstr (fixV al (zBlk s) (zK s) (zAll s) W b) (zBlk s) b) (cn (zBlk s) b (zAll s)) (zK s) → ∀ ω, zsame [39, 40, 41, 42, 43, 44] υ ω → (∀ i : Nat, i < cn (zBlk s) b (zAll s) → ω 39 i = g ((fixC al (wstr (fixV al (zBlk s) (zK s) (zAll s) W b) (zBlk s) b) (cn (zBlk s) b (zAll s)) (zK s)).1 i)) → ∀ v1_18 : Int, v1_18 = (fixT al (zBlk s) (zK s) (zAll s) W b : Int) + ((fixC al (wstr (fixV al (zBlk s) (zK s) (zAll s) W b) (zBlk s) b) (cn (zBlk s) b (zAll s)) (zK s)).2 : Int) → (2 ≤ (ω 0 17) ∧ (ω 0 17) < 32) ∧ wc_X1_spreads ((ω 0 17).toNat) b (cn (zBlk s) b (zAll s)) ω (fun σ20 => C (v1_18, (b : Int) + 1, σ20)) := fun hok ω w1 w2 v hv => by
      have z17 : ω 0 17 = ((2 + s : Nat) : Int) := by rw [w1 0 (by decide)]; exact y17
      have m2 : zsame [39, 40, 41, 42, 43, 44, 74] σ ω := m1.trans (w1.mono (fun c hc => by simp at hc ⊢; omega))
      refine ⟨by omega, ?_⟩
      rw [z17, tn]
      refine lc_spreads (hC.same m2 hq) hs hb (fixV al (zBlk s) (zK s) (zAll s) W b) _ (fun i hi => by rw [w1 74 (by decide), k1 74 (by decide)]; exact g2 i hi) w2 (fun κ z1 z2 => ?_)
      refine hCC _ ⟨κ, ?_, m2.trans (z1.mono (fun c hc => by simp at hc ⊢; omega)), z2, fun b' hb' => ?_⟩
      · rw [hv]; rfl
      · by_cases e : b' = b
        · subst e; exact hok
        · exact g3 b' (by omega)
    rcases Classical.em (fixOK al (wstr (fixV al (zBlk s) (zK s) (zAll s) W b) (zBlk s) b) (cn (zBlk s) b (zAll s)) (zK s)) with hok | hok
    · obtain ⟨pos, hf⟩ := fixC_spec hok
      refine lc_mend hG hT2 t5 hn255 _ k2 (fun c v pos' hf' ω w1 w2 => ?_) (fun hno => absurd ⟨_, _, pos, hf⟩ hno)
      obtain ⟨u1, u2⟩ := hf.same hG hn255 hf'
      have hv := hf'.2.2
      refine ⟨InRs (by omega) (by omega), fun _ => ?_, fun e => by omega⟩
      exact fun v1 hv1 => fin1 hok ω w1 (fun i hi => by rw [w2 i hi, u2 i hi]) v1 (by rw [hv1, u1])
    · refine lc_mend hG hT2 t5 hn255 _ k2 (fun c v pos' hf' => absurd ⟨(c, v), pos', hf'⟩ hok) (fun _ ω w1 => ?_)
      refine ⟨InRs (by omega) (by omega), fun e => absurd e (by decide), fun _ => h0 (fun q => hok (q b hb)) ω (m1.trans (w1.mono (fun c hc => by simp at hc ⊢; omega)))⟩
  · rintro C _ ⟨τ, rfl, g1, g2, g3⟩
    have x17 : τ 0 17 = ((2 + s : Nat) : Int) := by rw [g1 0 (by decide)]; exact h17
    have hCt : TabC τ := hC.same g1 hq
    have x10 : τ (2 + s) 10 = zBlk s := (hCt s hs).2.2.2.2.2.2.2.2.2.2
    have x9 : τ (2 + s) 9 = zData s := (hCt s hs).2.2.2.2.2.2.2.2.2.1
    refine ⟨by omega, InRs (by omega) (by omega), by rw [x17, tn, x10]; exact InRs (by omega) (by omega), fun _ => ?_, fun e => by rw [x17, tn, x10] at e; omega⟩
    rw [x17, tn, x9]
    exact h1 g3 τ g1 g2
