/-! wrong numbers of a block *(the component)* -/
theorem fixes.of2 {F : Type} [Lean.Grind.Field F] {al : F} {w u : Nat → F} {n k m : Nat} {q : Nat → Nat} (h0 : ∀ j, j < k → syn al u n j = 0) (hq : incr m q) (hd : ∀ i, i < n → w i ≠ u i → ∃ l, l < m ∧ q l = i) (hm : 2 * m ≤ k) : ∃ c v pos, fixes al w n k c v pos := by
  obtain ⟨v, pos, h1, h2, h3⟩ := incr_of (fun i => w i ≠ u i) n
  refine ⟨u, v, pos, h0, ⟨h2, h1, h3⟩, ?_⟩
  have : v ≤ m := h1.le hq (fun l hl => hd _ (h2 l hl) ((h3 (pos l) (h2 l hl)).mpr ⟨l, hl, rfl⟩))
  omega
/-- a row moved on by s -/
def shB {F : Type} [Lean.Grind.Field F] (s : Nat) (B : Nat → F) : Nat → F := fun i => if i < s then 0 else B (i - s)
theorem shB_mv {F : Type} [Lean.Grind.Field F] (s : Nat) (B : Nat → F) : smv (shB s B) = shB (s + 1) B := by
  funext i
  unfold smv shB
  by_cases e : i = 0
  · rw [if_pos e, if_pos (by omega)]
  · rw [if_neg e]
    by_cases e2 : i < s + 1
    · rw [if_pos e2, if_pos (by omega)]
    · rw [if_neg e2, if_neg (by omega)]; congr 1; omega
theorem shB_one {F : Type} [Lean.Grind.Field F] (B : Nat → F) : shB 1 B = smv B := by
  funext i
  unfold smv shB
  by_cases e : i = 0
  · rw [if_pos e, if_pos (by omega)]
  · rw [if_neg e, if_neg (by omega)]
def e0 {F : Type} [Lean.Grind.Field F] : Nat → F := fun i => if i = 0 then 1 else 0
/-- the sum's step, as it is worked out -/
def ldis {F : Type} [Lean.Grind.Field F] (S C : Nat → F) (m : Nat) (j : Nat) : F := S m + gsum (fun i => C (i + 1) * S (m - (i + 1))) j
theorem ldis_scv {F : Type} [Lean.Grind.Field F] {S T C : Nat → F} {m L : Nat} (h0 : C 0 = 1) (hz : ∀ i, L < i → C i = 0) (hL : L ≤ m) (hS : ∀ j, j ≤ m → S j = T j) : ldis S C m L = scv T C m := by
  unfold ldis scv
  have e : gsum (fun i => C i * T (m - i)) (m + 1) = gsum (fun i => C i * T (m - i)) (L + 1) := gsum_cut (by omega) (fun i h1 _ => by rw [hz i (by omega)]; grind)
  have e2 : gsum (fun i => C (i + 1) * S (m - (i + 1))) L = gsum (fun i => C (i + 1) * T (m - (i + 1))) L := gsum_congr (fun i _ => by rw [hS _ (by omega)])
  rw [hz (m + 1) (by omega), e, e2, gsum_head, h0, hS m (Nat.le_refl _), Nat.sub_zero]; grind
def lnew {F : Type} [Lean.Grind.Field F] (C B : Nat → F) (f : F) (s j : Nat) : Nat → F := fun i => if s ≤ i ∧ i < j then C i + f * B (i - s) else C i
theorem lc_locator {F : Type} [Lean.Grind.Field F] {g : F → Int} {al : F} (hG : GOK g al) {σ : ZS} {post : Int → ZS → Prop} (hT : GFT g al (σ 36) (σ 37)) {k n : Nat} (hk : k ≤ 68) (hn : n ≤ 255) (w : Nat → F) (h40 : ∀ j : Nat, j < k → σ 40 j = g (syn al w n j))
    (h : ∀ (L : Nat) (C : Nat → F) τ, zsame [41, 42, 43] σ τ → (∀ i : Nat, i < 70 → τ 41 i = g (C i)) → L ≤ k → (∀ c v pos, fixes al w n k c v pos → L = v ∧ C 0 = 1 ∧ (∀ i, v < i → C i = 0) ∧ ∀ l, l < v → stail C v (eX al n pos l) = 0) → post L τ) : wc_X3_locator k σ post := by
  refine zfix_count 70 (fun i s => ∃ τ : ZS, s = ((k : Int), (i : Int), τ) ∧ zsame [41, 42, 43] σ τ ∧ ∀ j : Nat, j < i → τ 41 j = g (e0 j) ∧ τ 42 j = g (e0 j)) ?_ ?_ ⟨σ, rfl, zsame.refl _ _, fun j hj => by omega⟩
  · rintro C i _ hi ⟨τ, rfl, h1, h2⟩ hC
    have e1 : ∀ x : Int, x = g (e0 i) → C ((k : Int), (i : Int) + 1, zst (zst τ 41 (i : Int) x) 42 (i : Int) x) := fun x hx => by
      refine hC _ ⟨_, rfl, (h1.st (by decide) _ _).st (by decide) _ _, fun j hj => ?_⟩
      by_cases e : j = i
      · subst e; exact ⟨by rw [zst_cell (by decide), zst_self]; exact hx, by rw [zst_self]; exact hx⟩
      · exact ⟨by rw [zst_cell (by decide), zst_place (by omega)]; exact (h2 j (by omega)).1, by rw [zst_place (by omega), zst_cell (by decide)]; exact (h2 j (by omega)).2⟩
    refine ⟨InRs (by omega) (by omega), fun e => by omega, fun _ => ⟨fun e => ⟨by omega, ?_⟩, fun e => ⟨by omega, ?_⟩⟩⟩
    · rintro _ rfl
      refine ⟨InRs (by omega) (by omega), fun _ => ⟨by omega, ?_⟩, fun e2 => absurd e2 e⟩
      rintro _ rfl
      exact e1 0 (by unfold e0; rw [if_neg (by omega), hG.z])
    · rintro _ rfl
      refine ⟨InRs (by omega) (by omega), fun e2 => absurd e e2, fun _ => ⟨by omega, ?_⟩⟩
      rintro _ rfl
      exact e1 1 (by unfold e0; rw [if_pos (by omega), hG.o])
  · rintro C _ ⟨τ, rfl, h1, h2⟩
    refine ⟨InRs (by omega) (by omega), fun _ => ?_, fun e => by omega⟩
    refine zfix_count k (fun m a => ∃ (τ : ZS) (L s : Nat) (C B : Nat → F) (b : F), a = ((k : Int), (L : Int), (s : Int), g b, (m : Int), τ) ∧ zsame [41, 42, 43] σ τ ∧ (∀ i : Nat, i < 70 → τ 41 i = g (C i)) ∧ (∀ i : Nat, i < 70 → τ 42 i = g (B i)) ∧ L ≤ m ∧ 1 ≤ s ∧ s ≤ m + 1 ∧ b ≠ 0 ∧ ∀ c v pos, fixes al w n k c v pos → BMI v (ssum v (eX al n pos) (eY w c pos)) m L C (shB s B) b) ?_ ?_ ⟨τ, 0, 1, e0, e0, 1, by rw [hG.o]; rfl, h1, fun i hi => (h2 i hi).1, fun i hi => (h2 i hi).2, Nat.le_refl _, Nat.le_refl _, Nat.le_refl _, fun e => Lean.Grind.Field.zero_ne_one e.symm, fun c v pos hf => by rw [shB_one]; exact BMI_first v _⟩
    · rintro C2 m _ hm ⟨τ, L, s, C, B, b, rfl, g1, g2, g3, g4, g5, g6, g7, g8⟩ hC2
      have t40 : ∀ j : Nat, j < k → τ 40 j = g (syn al w n j) := fun j hj => by rw [g1 40 (by decide)]; exact h40 j hj
      refine ⟨InRs (by omega) (by omega), InRs (by omega) (by omega), fun e => by omega, fun _ => ⟨by omega, ?_⟩⟩
      rintro _ rfl
      refine zfix_count L (fun j a => a = ((k : Int), (L : Int), (s : Int), g b, (m : Int), g (ldis (syn al w n) C m j), (j : Int) + 1, τ)) ?_ ?_ ?_
      · rintro D j _ hj rfl hD
        refine ⟨InRs (by omega) (by omega), InRs (by omega) (by omega), fun e => by omega, fun _ => ⟨by omega, by omega, ?_⟩⟩
        have e1 : τ 41 ((j : Int) + 1) = g (C (j + 1)) := g2 (j + 1) (by omega)
        have e2 : τ 40 ((m : Int) - ((j : Int) + 1)) = g (syn al w n (m - (j + 1))) := by
          rw [← t40 _ (by omega)]; congr 1; omega
        rw [e1, e2]
        refine lc_times hG (by rw [g1 36 (by decide), g1 37 (by decide)]; exact hT) _ _ ?_
        rintro _ rfl
        rw [hG.x]
        refine (congrArg D ?_).mp (hD _ rfl)
        have e3 : ldis (syn al w n) C m (j + 1) = ldis (syn al w n) C m j + C (j + 1) * syn al w n (m - (j + 1)) := by
          unfold ldis; rw [gsum_succ]; grind
        rw [e3]; rfl
      · rintro D _ rfl
        have hdis : ∀ c v pos, fixes al w n k c v pos → ldis (syn al w n) C m L = scv (ssum v (eX al n pos) (eY w c pos)) C m := fun c v pos hf => by
          obtain ⟨q1, q2, q3, q4, _⟩ := g8 c v pos hf
          exact ldis_scv q3 q4 g4 (fun j hj => hf.sums (by omega))
        refine ⟨InRs (by omega) (by omega), InRs (by omega) (by omega), fun _ => ⟨hG.inr _, fun e => ?_, fun e => ?_⟩, fun e => by omega⟩
        · have hd0 : ldis (syn al w n) C m L ≠ 0 := fun q => e ((hG.e0 _).mpr q)
          refine lc_over hG (by rw [g1 36 (by decide), g1 37 (by decide)]; exact hT) _ g7 ?_
          obtain ⟨d, hd⟩ : ∃ d, d = ldis (syn al w n) C m L := ⟨_, rfl⟩
          rw [← hd] at hd0 hdis ⊢
          have hfb : d + d / b * b = 0 := by
            have : d / b * b = d := by grind
            rw [this]; exact hG.t d
          have key : ∀ t0 : Int, (t0 = 1 ∧ 2 * L ≤ m ∨ t0 = 0 ∧ m < 2 * L) → wc_X3_locator_147 C2 post (k : Int) (L : Int) (s : Int) (g b) (m : Int) (g d) (g (d / b)) t0 τ := by
            intro t0 ht0
            refine zfix_count 70 (fun i a => ∃ υ : ZS, a = ((k : Int), (L : Int), (s : Int), g b, (m : Int), g d, g (d / b), t0, (i : Int), υ) ∧ zsame [43] τ υ ∧ ∀ j : Nat, j < i → υ 43 j = g (C j)) ?_ ?_ ⟨τ, rfl, zsame.refl _ _, fun j hj => by omega⟩
            · rintro E i _ hi ⟨υ, rfl, k1, k2⟩ hE
              refine ⟨InRs (by omega) (by omega), fun e => by omega, fun _ => ⟨by omega, ?_⟩⟩
              rintro _ rfl
              refine hE _ ⟨_, rfl, k1.st (by decide) _ _, fun j hj => ?_⟩
              rw [zst_at]
              by_cases e : j = i
              · subst e; rw [if_pos rfl, k1 41 (by decide)]; exact g2 j hi
              · rw [if_neg (by omega)]; exact k2 j (by omega)
            · rintro E _ ⟨υ, rfl, k1, k2⟩
              refine ⟨InRs (by omega) (by omega), fun _ => ?_, fun e => by omega⟩
              refine zfix_count (70 - s) (fun j a => ∃ ω : ZS, a = ((k : Int), (L : Int), (s : Int), g b, (m : Int), g d, g (d / b), t0, ((s + j : Nat) : Int), ω) ∧ zsame [41] υ ω ∧ ∀ i : Nat, i < 70 → ω 41 i = g (lnew C B (d / b) s (s + j) i)) ?_ ?_ ⟨υ, rfl, zsame.refl _ _, fun i hi => by rw [k1 41 (by decide), g2 i hi]; unfold lnew; rw [if_neg (by omega)]⟩
              · rintro G j _ hj ⟨ω, rfl, z1, z2⟩ hGG
                refine ⟨InRs (by omega) (by omega), fun e => by omega, fun _ => ⟨by omega, by omega, ?_⟩⟩
                have e1 : ω 42 (((s + j : Nat) : Int) - (s : Int)) = g (B j) := by
                  rw [z1 42 (by decide), k1 42 (by decide), ← g3 j (by omega)]; congr 1; omega
                rw [e1]
                refine lc_times hG (by rw [z1 36 (by decide), k1 36 (by decide), g1 36 (by decide), z1 37 (by decide), k1 37 (by decide), g1 37 (by decide)]; exact hT) _ _ ?_
                rintro _ rfl
                refine hGG _ ⟨_, rfl, z1.st (by decide) _ _, fun i hi => ?_⟩
                rw [zst_at]
                by_cases e : i = s + j
                · have e2 : ω 41 ((s + j : Nat) : Int) = g (C (s + j)) := by rw [z2 (s + j) (by omega)]; unfold lnew; rw [if_neg (by omega)]
                  rw [if_pos (by omega), e2, hG.x, e]
                  unfold lnew
                  rw [if_pos (by omega), Nat.add_sub_cancel_left]
                · rw [if_neg (by omega), z2 i hi]
                  unfold lnew
                  by_cases e3 : s ≤ i ∧ i < s + j
                  · rw [if_pos e3, if_pos (by omega)]
                  · rw [if_neg e3, if_neg (by omega)]
              · rintro G _ ⟨ω, rfl, z1, z2⟩
                have hs70 : s + (70 - s) = 70 := by omega
                rw [hs70] at z2 ⊢
                have hz : zsame [41, 42, 43] σ ω := (g1.trans (k1.mono (fun c hc => by simp at hc ⊢; omega))).trans (z1.mono (fun c hc => by simp at hc ⊢; omega))
                have hnew : ∀ c v pos, fixes al w n k c v pos → lnew C B (d / b) s 70 = fun i => C i + (d / b) * shB s B i := fun c v pos hf => by
                  obtain ⟨q1, q2, q3, q4, q5, q6, q7, _⟩ := g8 c v pos hf
                  funext i
                  unfold lnew
                  by_cases e1 : s ≤ i ∧ i < 70
                  · rw [if_pos e1]; unfold shB; rw [if_neg (by omega)]
                  · rw [if_neg e1]
                    by_cases e2 : i < s
                    · unfold shB; rw [if_pos e2]; grind
                    · rw [q7 i (by omega)]; grind
                refine ⟨InRs (by omega) (by omega), fun _ => ⟨by rcases ht0 with ⟨e, _⟩ | ⟨e, _⟩ <;> rw [e] <;> exact InRs (by omega) (by omega), fun e => ?_, fun e => ?_⟩, fun e => by omega⟩
                · obtain ⟨_, hlt⟩ : t0 = 0 ∧ m < 2 * L := by omega
                  refine hC2 _ ⟨ω, L, s + 1, lnew C B (d / b) s 70, B, b, rfl, hz, z2, fun i hi => by rw [z1 42 (by decide), k1 42 (by decide)]; exact g3 i hi, by omega, by omega, by omega, g7, fun c v pos hf => ?_⟩
                  rw [hnew c v pos hf, ← shB_mv]
                  exact BMI_same (g8 c v pos hf) (by rw [← hdis c v pos hf]; exact hfb) hlt
                · obtain ⟨_, hle⟩ : t0 = 1 ∧ 2 * L ≤ m := by omega
                  refine zfix_count 70 (fun i a => ∃ κ : ZS, a = ((k : Int), (L : Int), (m : Int), g d, (i : Int), κ) ∧ zsame [42] ω κ ∧ ∀ j : Nat, j < i → κ 42 j = g (C j)) ?_ ?_ ⟨ω, rfl, zsame.refl _ _, fun j hj => by omega⟩
                  · rintro K i _ hi ⟨κ, rfl, y1, y2⟩ hK
                    refine ⟨InRs (by omega) (by omega), fun e => by omega, fun _ => ⟨by omega, ?_⟩⟩
                    rintro _ rfl
                    refine hK _ ⟨_, rfl, y1.st (by decide) _ _, fun j hj => ?_⟩
                    rw [zst_at]
                    by_cases e : j = i
                    · subst e; rw [if_pos rfl, y1 43 (by decide), z1 43 (by decide)]; exact k2 j hi
                    · rw [if_neg (by omega)]; exact y2 j (by omega)
                  · rintro K _ ⟨κ, rfl, y1, y2⟩
                    refine ⟨InRs (by omega) (by omega), fun _ => ?_, fun e => by omega⟩
                    rintro _ rfl
                    refine hC2 _ ⟨κ, m + 1 - L, 1, lnew C B (d / b) s 70, C, d, by congr 2; omega, hz.trans (y1.mono (fun c hc => by simp at hc ⊢; omega)), fun i hi => by rw [y1 41 (by decide)]; exact z2 i hi, y2, by omega, by omega, by omega, hd0, fun c v pos hf => ?_⟩
                    rw [hnew c v pos hf, shB_one, hdis c v pos hf]
                    exact BMI_more (hf.dist hG hn) (fixes.x0 hG) hf.y0 (g8 c v pos hf) (by rw [← hdis c v pos hf]; exact hd0) (by rw [← hdis c v pos hf]; exact hfb) hle
          refine ⟨InRs (by omega) (by omega), InRs (by omega) (by omega), fun e => key 0 (.inr ⟨rfl, by omega⟩), fun e => key 1 (.inl ⟨rfl, by omega⟩)⟩
        · refine hC2 _ ⟨τ, L, s + 1, C, B, b, rfl, g1, g2, g3, by omega, by omega, by omega, g7, fun c v pos hf => ?_⟩
          rw [← shB_mv]
          exact BMI_zero (g8 c v pos hf) (by rw [← hdis c v pos hf]; exact (hG.e0 _).mp e)
      · rw [t40 m hm]
        have : ldis (syn al w n) C m 0 = syn al w n m := by unfold ldis; rw [gsum_zero]; grind
        rw [this]; rfl
    · rintro C2 _ ⟨τ, L, s, C, B, b, rfl, g1, g2, g3, g4, g5, g6, g7, g8⟩
      refine ⟨InRs (by omega) (by omega), InRs (by omega) (by omega), fun _ => ?_, fun e => by omega⟩
      refine h L C τ g1 g2 g4 (fun c v pos hf => ?_)
      obtain ⟨e1, e2⟩ := BMI_last (hf.dist hG hn) (fixes.x0 hG) hf.y0 (g8 c v pos hf) hf.2.2
      subst e1
      obtain ⟨q1, q2, q3, q4, _⟩ := g8 c L pos hf
      exact ⟨rfl, q3, q4, e2⟩
