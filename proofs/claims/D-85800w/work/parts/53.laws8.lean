theorem chkw_data {F : Type} [Lean.Grind.Field F] {al : F} {st k data : Nat} {W : Nat → F} (hst : st = 1 ∨ st = 2 ∨ st = 4 ∨ st = 6 ∨ st = 8 ∨ st = 10) {i : Nat} (hi : i < data) : chkw al st k data W i = W i := by
  obtain ⟨h1, h2⟩ := cn_dm2 (i := i) hst
  unfold chkw blkc
  rw [if_pos ((cn_lt hst h1).mpr (by omega))]
  dsimp only
  rw [← h2]
theorem chkw_rest {F : Type} [Lean.Grind.Field F] {al : F} {st k data : Nat} {W : Nat → F} (hst : st = 1 ∨ st = 2 ∨ st = 4 ∨ st = 6 ∨ st = 8 ∨ st = 10) {b i : Nat} (hb : i % st = b) (hi : data ≤ i) : chkw al st k data W i = rfold k (genP al k) (fun m => W (b + m * st)) (cn st b data) (cn st b i - cn st b data) := by
  obtain ⟨h1, h2⟩ := cn_dm2 (i := i) hst
  have h3 : cn st b i = i / st := (cn_at hst (by omega) hb).1
  unfold chkw blkc
  rw [hb, if_neg (fun q => by have := (cn_lt hst (by omega)).mp q; rw [hb] at h2; omega), h3]
theorem natmod (n m : Nat) : (n : Int) % (m : Int) = ((n % m : Nat) : Int) := by push_cast; rfl
theorem lm_check_23 {F : Type} [Lean.Grind.Field F] {g : F → Int} {al : F} (hG : GOK g al) {σ : ZS} {post : ZS → Prop} (hT : GFT g al (σ 7) (σ 8)) {st k data all : Nat} (hst : st = 1 ∨ st = 2 ∨ st = 4 ∨ st = 6 ∨ st = 8 ∨ st = 10) (t3 : all = data + k * st) (t4 : 0 < k) (t5 : k ≤ 68) (hall : all ≤ 2178) (W : Nat → F) (hW : ∀ i : Nat, i < data → σ 13 i = g (W i)) (h : ∀ τ, zsame [13, 14, 15] σ τ → (∀ i : Nat, i < all → τ 13 i = g (chkw al st k data W i)) → post τ) : ∃ N : Nat, zfix (wbm_check_23 post) N ((data : Int), (all : Int), (st : Int), 0, σ) := by
  refine zfix_count st (fun b a => ∃ τ : ZS, a = ((data : Int), (all : Int), (st : Int), (b : Int), τ) ∧ zsame [13, 14, 15] σ τ ∧ (∀ i : Nat, i < data → τ 13 i = g (W i)) ∧ ∀ i : Nat, data ≤ i → i < all → i % st < b → τ 13 i = g (chkw al st k data W i)) ?_ ?_ ⟨σ, rfl, zsame.refl _ _, hW, fun i _ _ h => by omega⟩
  · rintro C b _ hb ⟨τ, rfl, g1, g2, g3⟩ hC
    refine ⟨InRs (by omega) (by omega), InRs (by omega) (by omega), fun e => by omega, fun _ => ?_⟩
    have hmono : ∀ t, cn st b data ≤ cn st b (data + t) := fun t => by
      induction t with
      | zero => exact Nat.le_refl _
      | succ t ih => rw [← Nat.add_assoc, cn_succ hst hb]; omega
    refine zfix_count (all - data) (fun t a => a = ((data : Int), (all : Int), (st : Int), (b : Int), ((cn st b (data + t) - cn st b data : Nat) : Int), ((data + t : Nat) : Int), τ)) ?_ ?_ (by rw [Nat.add_zero, Nat.sub_self]; rfl)
    · rintro D t _ ht rfl hD
      have h1 := hmono t
      have h2 := cn_succ (n := data + t) hst hb
      refine ⟨InRs (by omega) (by omega), InRs (by omega) (by omega), fun e => by omega, fun _ => ⟨by omega, InRs (by omega) (by omega), by omega, ?_⟩⟩
      rw [natmod]
      have h3 : (data + t) % st < st := Nat.mod_lt _ (by omega)
      refine ⟨InRs (by omega) (by omega), InRs (by omega) (by omega), fun e => ?_, fun e => ?_⟩
      · rintro _ rfl
        rw [if_neg (by omega)] at h2
        refine hD _ ?_
        rw [← Nat.add_assoc, h2]
        congr 5
      · rintro _ rfl
        rw [if_pos (by omega)] at h2
        refine hD _ ?_
        rw [← Nat.add_assoc, h2]
        congr 5
        omega
    · rintro D _ rfl
      have e1 : data + (all - data) = all := by omega
      have e2 : cn st b all - cn st b data = k := by rw [t3, cn_add hst hb]; omega
      rw [e1, e2]
      refine ⟨InRs (by omega) (by omega), InRs (by omega) (by omega), fun _ => ?_, fun e => by omega⟩
      refine lm_makeDivisor hG (by rw [g1 7 (by decide), g1 8 (by decide)]; exact hT) t5 (fun υ v1 v2 => ?_)
      have m1 : zsame [13, 14, 15] σ υ := g1.trans (v1.mono (fun c hc => by simp at hc ⊢; omega))
      refine zfix_count k (fun j a => ∃ ω : ZS, a = ((data : Int), (all : Int), (st : Int), (b : Int), (k : Int), (j : Int), ω) ∧ zsame [15] υ ω ∧ ∀ i : Nat, i < j → ω 15 i = g 0) ?_ ?_ ⟨υ, rfl, zsame.refl _ _, fun i hi => by omega⟩
      · rintro E j _ hj ⟨ω, rfl, z1, z2⟩ hE
        refine ⟨InRs (by omega) (by omega), InRs (by omega) (by omega), fun e => by omega, fun _ => ⟨by omega, ?_⟩⟩
        rintro _ rfl
        refine hE _ ⟨_, rfl, z1.st (by decide) _ _, fun i hi => ?_⟩
        rw [zst_at]
        by_cases e : i = j
        · rw [if_pos (by omega), hG.z]
        · rw [if_neg (by omega)]; exact z2 i (by omega)
      · rintro E _ ⟨ω, rfl, z1, z2⟩
        refine ⟨InRs (by omega) (by omega), InRs (by omega) (by omega), fun _ => ?_, fun e => by omega⟩
        have m2 : zsame [13, 14, 15] σ ω := m1.trans (z1.mono (fun c hc => by simp at hc ⊢; omega))
        have hT2 : GFT g al (ω 7) (ω 8) := by rw [m2 7 (by decide), m2 8 (by decide)]; exact hT
        have h13 : ω 13 = τ 13 := by rw [z1 13 (by decide), v1 13 (by decide)]
        refine zfix_count (cn st b data) (fun m a => ∃ κ : ZS, a = ((data : Int), (all : Int), (st : Int), (b : Int), (k : Int), ((b + m * st : Nat) : Int), κ) ∧ zsame [15] ω κ ∧ ∀ i : Nat, i < k → κ 15 i = g (rfold k (genP al k) (fun m => W (b + m * st)) m i)) ?_ ?_ ⟨ω, by rw [Nat.zero_mul]; rfl, zsame.refl _ _, z2⟩
        · rintro G m _ hm ⟨κ, rfl, y1, y2⟩ hGG
          have hlt := (cn_lt hst hb).mp hm
          refine ⟨InRs (by omega) (by omega), InRs (by omega) (by omega), fun e => by omega, fun _ => ⟨by omega, ?_⟩⟩
          rintro _ rfl
          have e3 : κ 13 ((b + m * st : Nat) : Int) = g (W (b + m * st)) := by rw [y1 13 (by decide), h13]; exact g2 _ hlt
          have e4 : κ 15 0 = g (rfold k (genP al k) (fun m => W (b + m * st)) m 0) := y2 0 (by omega)
          rw [e3, e4, hG.x]
          refine lm_check_127 hG (σ := ω) (by exact hT2) t5 _ _ _ _ _ (genP al k) (rfold k (genP al k) (fun m => W (b + m * st)) m) (W (b + m * st)) y1 (fun i hi => by rw [y1 14 (by decide), z1 14 (by decide)]; exact v2 i hi) y2 (fun κ' x1 x2 => ?_)
          refine hGG _ ⟨κ', ?_, x1, x2⟩
          have e5 : b + (m + 1) * st = b + m * st + st := by rw [Nat.add_mul, Nat.one_mul, Nat.add_assoc]
          rw [e5]; push_cast; rfl
        · rintro G _ ⟨κ, rfl, y1, y2⟩
          have hge : ¬ b + cn st b data * st < data := fun q => by
            have := (cn_lt (m := cn st b data) hst hb).mpr q
            omega
          have hle : b + cn st b data * st ≤ 2178 + 10 := by
            unfold cn
            rcases hst with rfl | rfl | rfl | rfl | rfl | rfl <;> omega
          refine ⟨InRs (by omega) (by omega), InRs (by omega) (by omega), fun _ => ?_, fun e => by omega⟩
          have m3 : zsame [13, 14, 15] σ κ := m2.trans (y1.mono (fun c hc => by simp at hc ⊢; omega))
          have k13 : κ 13 = τ 13 := by rw [y1 13 (by decide), h13]
          refine zfix_count (all - data) (fun t a => ∃ μ : ZS, a = ((data : Int), (all : Int), (st : Int), (b : Int), ((cn st b (data + t) - cn st b data : Nat) : Int), ((data + t : Nat) : Int), μ) ∧ zsame [13] κ μ ∧ (∀ i : Nat, i < data → μ 13 i = g (W i)) ∧ ∀ i : Nat, data ≤ i → i < all → (i % st < b ∨ i % st = b ∧ i < data + t) → μ 13 i = g (chkw al st k data W i)) ?_ ?_ ⟨κ, by rw [Nat.add_zero, Nat.sub_self]; rfl, zsame.refl _ _, fun i hi => by rw [k13]; exact g2 i hi, fun i hi1 hi2 hi3 => by rw [k13]; exact g3 i hi1 hi2 (by omega)⟩
          · rintro H t _ ht ⟨μ, rfl, x1, x2, x3⟩ hH
            have h1 := hmono t
            have h2 := cn_succ (n := data + t) hst hb
            refine ⟨InRs (by omega) (by omega), InRs (by omega) (by omega), fun e => by omega, fun _ => ⟨by omega, InRs (by omega) (by omega), by omega, ?_⟩⟩
            rw [natmod]
            have h3 : (data + t) % st < st := Nat.mod_lt _ (by omega)
            refine ⟨InRs (by omega) (by omega), InRs (by omega) (by omega), fun e => ?_, fun e => ?_⟩
            · rw [if_neg (by omega)] at h2
              refine hH _ ⟨μ, ?_, x1, x2, fun i hi1 hi2 hi3 => x3 i hi1 hi2 ?_⟩
              · rw [← Nat.add_assoc, h2]; rfl
              · rcases hi3 with hi3 | ⟨hi3, hi4⟩
                · exact .inl hi3
                · refine .inr ⟨hi3, ?_⟩
                  rcases Nat.lt_or_ge i (data + t) with q | q
                  · exact q
                  · have : i = data + t := by omega
                    subst this; omega
            · rw [if_pos (by omega)] at h2
              have hlt : cn st b (data + t) - cn st b data < k := by
                have : cn st b (data + t) < cn st b all := by
                  have q1 := (cn_at hst hb (n := data + t) (by omega)).2
                  exact (cn_lt hst hb).mpr (by omega)
                omega
              refine ⟨by omega, by omega, ?_⟩
              rintro _ rfl
              have e6 : μ 15 ((cn st b (data + t) - cn st b data : Nat) : Int) = g (chkw al st k data W (data + t)) := by
                rw [x1 15 (by decide), y2 _ hlt, chkw_rest hst (b := b) (by omega) (by omega)]
              rw [e6]
              refine hH _ ⟨zst μ 13 ((data + t : Nat) : Int) (g (chkw al st k data W (data + t))), ?_, x1.st (by decide) _ _, fun i hi => by rw [zst_place (by omega)]; exact x2 i hi, fun i hi1 hi2 hi3 => ?_⟩
              · rw [← Nat.add_assoc, h2]
                have e7 : ((cn st b (data + t) - cn st b data : Nat) : Int) + 1 = ((cn st b (data + t) + 1 - cn st b data : Nat) : Int) := by omega
                rw [e7]; rfl
              · rw [zst_at]
                by_cases e8 : i = data + t
                · rw [if_pos (by omega), e8]
                · rw [if_neg (by omega)]
                  exact x3 i hi1 hi2 (by omega)
          · rintro H _ ⟨μ, rfl, x1, x2, x3⟩
            rw [e1] at x3
            refine ⟨InRs (by omega) (by omega), InRs (by omega) (by omega), fun _ => ?_, fun e => by omega⟩
            exact hC _ ⟨μ, rfl, m3.trans (x1.mono (fun c hc => by simp at hc ⊢; omega)), x2, fun i hi1 hi2 hi3 => x3 i hi1 hi2 (by omega)⟩
  · rintro C _ ⟨τ, rfl, g1, g2, g3⟩
    refine ⟨InRs (by omega) (by omega), InRs (by omega) (by omega), fun _ => ?_, fun e => by omega⟩
    refine h τ g1 (fun i hi => ?_)
    rcases Nat.lt_or_ge i data with q | q
    · rw [chkw_data hst q]; exact g2 i q
    · exact g3 i q hi (Nat.mod_lt _ (by omega))
theorem lm_check {F : Type} [Lean.Grind.Field F] {g : F → Int} {al : F} (hG : GOK g al) {σ : ZS} {post : ZS → Prop} (hT : GFT g al (σ 7) (σ 8)) (hM : TabM σ) {s : Nat} (hs : s < 30) (W : Nat → F) (hW : ∀ i : Nat, i < zData s → σ 13 i = g (W i)) (h : ∀ τ, zsame [13, 14, 15] σ τ → (∀ i : Nat, i < zAll s → τ 13 i = g (chkw al (zBlk s) (zK s) (zData s) W i)) → post τ) : wm_check s σ post := by
  obtain ⟨t1, hst, t3, t4, t5, t6, t7⟩ := ztab s hs
  refine lm_dataOf hM hs (lm_allOf hM hs ⟨by omega, ?_⟩)
  rintro _ rfl
  rw [(hM s hs).2.2.2.1]
  exact lm_check_23 hG hT hst t3 t4 t5 (by omega) W hW h
theorem lc_check {F : Type} [Lean.Grind.Field F] {g : F → Int} {al : F} (hG : GOK g al) {σ : ZS} {post : ZS → Prop} (hT : GFT g al (σ 36) (σ 37)) {k nb : Nat} (hk : k ≤ 68) (hk0 : 0 < k) (hn : nb + k ≤ 256) (w : Nat → F) (hw : ∀ i : Nat, i < nb → σ 39 i = g (w i)) (h : ∀ τ, zsame [38, 39, 43] σ τ → (∀ i : Nat, i < nb + k → τ 39 i = g (blkc al k nb w i)) → post τ) : wc_X3_check ((nb + k : Nat) : Int) k σ post := by
  obtain ⟨n, en⟩ : ∃ n, n = nb + k := ⟨_, rfl⟩
  rw [← en] at h hn ⊢
  have hnk : (n : Int) - (k : Int) = (nb : Int) := by omega
  refine zfix_count (k + 1) (fun i a => ∃ τ : ZS, a = ((n : Int), (k : Int), (i : Int), τ) ∧ zsame [38] σ τ ∧ ∀ j : Nat, j < i → τ 38 j = g (e0 j)) ?_ ?_ ⟨σ, rfl, zsame.refl _ _, fun j hj => by omega⟩
  · rintro C i _ hi ⟨τ, rfl, g1, g2⟩ hC
    have e1 : ∀ x : Int, x = g (e0 i) → C ((n : Int), (k : Int), (i : Int) + 1, zst τ 38 (i : Int) x) := fun x hx => by
      refine hC _ ⟨_, rfl, g1.st (by decide) _ _, fun j hj => ?_⟩
      rw [zst_at]
      by_cases e : j = i
      · rw [if_pos (by omega), e]; exact hx
      · rw [if_neg (by omega)]; exact g2 j (by omega)
    refine ⟨InRs (by omega) (by omega), InRs (by omega) (by omega), fun e => by omega, fun _ => ⟨fun e => ⟨by omega, ?_⟩, fun e => ⟨by omega, ?_⟩⟩⟩
    · rintro _ rfl; exact e1 0 (by unfold e0; rw [if_neg (by omega), hG.z])
    · rintro _ rfl; exact e1 1 (by unfold e0; rw [if_pos (by omega), hG.o])
  · rintro C _ ⟨τ, rfl, g1, g2⟩
    refine ⟨InRs (by omega) (by omega), InRs (by omega) (by omega), fun _ => ?_, fun e => by omega⟩
    refine zfix_count k (fun r a => ∃ υ : ZS, a = ((n : Int), (k : Int), (r : Int) + 1, υ) ∧ zsame [38] σ υ ∧ ∀ j : Nat, j ≤ k → υ 38 j = g (genP al r j)) ?_ ?_ ⟨τ, rfl, g1, fun j hj => g2 j (by omega)⟩
    · rintro D r _ hr ⟨υ, rfl, k1, k2⟩ hD
      refine ⟨InRs (by omega) (by omega), InRs (by omega) (by omega), fun e => by omega, fun _ => ?_⟩
      refine zfix_count (r + 1) (fun t a => ∃ ω : ZS, a = ((n : Int), (k : Int), (r : Int) + 1, (r : Int) + 1 - (t : Int), ω) ∧ zsame [38] σ ω ∧ ∀ j : Nat, j ≤ k → ω 38 j = g (if r + 1 - t < j then genP al (r + 1) j else genP al r j)) ?_ ?_ ⟨υ, by rw [show (r : Int) + 1 - ((0 : Nat) : Int) = (r : Int) + 1 from by omega], k1, fun j hj => by
        rw [k2 j hj]
        by_cases e : r + 1 - 0 < j
        · rw [if_pos e, genP_top al r j (by omega), genP_top al (r + 1) j (by omega)]
        · rw [if_neg e]⟩
      · rintro E t _ ht ⟨ω, rfl, z1, z2⟩ hE
        have e1 : (r : Int) + 1 - (t : Int) = ((r + 1 - t : Nat) : Int) := by omega
        have e2 : (r : Int) + 1 - (t : Int) - 1 = ((r - t : Nat) : Int) := by omega
        refine ⟨InRs (by omega) (by omega), fun e => by omega, fun _ => ⟨by omega, by omega, by omega, ?_⟩⟩
        have e3 : ω 38 ((r : Int) + 1 - (t : Int) - 1) = g (genP al r (r - t)) := by
          rw [e2, z2 _ (by omega), if_neg (by omega)]
        have e4 : ω 36 ((r : Int) + 1) = g (al ^ (r + 1)) := by
          rw [z1 36 (by decide)]; exact hT.1 (r + 1) (by omega)
        rw [e3, e4]
        refine lc_times hG (by rw [z1 36 (by decide), z1 37 (by decide)]; exact hT) _ _ ?_
        rintro _ rfl
        refine hE _ ⟨_, by rw [show (r : Int) + 1 - ((t + 1 : Nat) : Int) = (r : Int) + 1 - (t : Int) + -1 from by omega], z1.st (by decide) _ _, fun j hj => ?_⟩
        rw [zst_at, e1]
        by_cases e : j = r + 1 - t
        · rw [if_pos (by omega), z2 _ (by omega), if_neg (by omega), hG.x, if_pos (by omega), e]
          congr 1
          show _ = genP al r (r + 1 - t) + (if r + 1 - t = 0 then 0 else genP al r (r + 1 - t - 1) * al ^ (r + 1))
          rw [if_neg (by omega)]
          congr 3; omega
        · rw [if_neg (by omega), z2 j hj]
          by_cases e5 : r + 1 - t < j
          · rw [if_pos e5, if_pos (by omega)]
          · rw [if_neg e5, if_neg (by omega)]
      · rintro E _ ⟨ω, rfl, z1, z2⟩
        refine ⟨InRs (by omega) (by omega), fun _ => ?_, fun e => by omega⟩
        refine hD _ ⟨ω, rfl, z1, fun j hj => ?_⟩
        rw [z2 j hj]
        by_cases e : j = 0
        · rw [if_neg (by omega), e]
          show _ = g (genP al r 0 + (if 0 = 0 then 0 else _))
          rw [if_pos rfl]; congr 1; grind
        · rw [if_pos (by omega)]
    · rintro D _ ⟨υ, rfl, k1, k2⟩
      refine ⟨InRs (by omega) (by omega), InRs (by omega) (by omega), fun _ => ?_, fun e => by omega⟩
      rintro _ rfl
      rw [hnk]
      refine zfix_count k (fun t a => ∃ ω : ZS, a = ((n : Int), (k : Int), ((nb + t : Nat) : Int), ω) ∧ zsame [38, 39] σ ω ∧ ω 38 = υ 38 ∧ ∀ i : Nat, i < nb → ω 39 i = g (w i)) ?_ ?_ ⟨υ, rfl, k1.mono (fun c hc => by simp at hc ⊢; omega), rfl, fun i hi => by rw [k1 39 (by decide)]; exact hw i hi⟩
      · rintro E t _ ht ⟨ω, rfl, z1, z2, z3⟩ hE
        refine ⟨InRs (by omega) (by omega), InRs (by omega) (by omega), fun e => by omega, fun _ => ⟨by omega, ?_⟩⟩
        rintro _ rfl
        exact hE _ ⟨_, rfl, z1.st (by decide) _ _, by rw [zst_row (by decide)]; exact z2, fun i hi => by rw [zst_place (by omega)]; exact z3 i hi⟩
      · rintro E _ ⟨ω, rfl, z1, z2, z3⟩
        refine ⟨InRs (by omega) (by omega), InRs (by omega) (by omega), fun _ => ?_, fun e => by omega⟩
        refine zfix_count k (fun j a => ∃ κ : ZS, a = ((n : Int), (k : Int), (j : Int), κ) ∧ zsame [43] ω κ ∧ ∀ i : Nat, i < j → κ 43 i = g 0) ?_ ?_ ⟨ω, rfl, zsame.refl _ _, fun i hi => by omega⟩
        · rintro G j _ hj ⟨κ, rfl, y1, y2⟩ hGG
          refine ⟨InRs (by omega) (by omega), InRs (by omega) (by omega), fun e => by omega, fun _ => ⟨by omega, ?_⟩⟩
          rintro _ rfl
          refine hGG _ ⟨_, rfl, y1.st (by decide) _ _, fun i hi => ?_⟩
          rw [zst_at]
          by_cases e : i = j
          · rw [if_pos (by omega), hG.z]
          · rw [if_neg (by omega)]; exact y2 i (by omega)
        · rintro G _ ⟨κ, rfl, y1, y2⟩
          refine ⟨InRs (by omega) (by omega), InRs (by omega) (by omega), fun _ => ?_, fun e => by omega⟩
          have m1 : zsame [38, 39, 43] σ κ := (z1.mono (fun c hc => by simp at hc ⊢; omega)).trans (y1.mono (fun c hc => by simp at hc ⊢; omega))
          have hT2 : GFT g al (κ 36) (κ 37) := by rw [m1 36 (by decide), m1 37 (by decide)]; exact hT
          have h38 : ∀ i : Nat, i ≤ k → κ 38 i = g (genP al k i) := fun i hi => by rw [y1 38 (by decide), z2]; exact k2 i hi
          have h39 : ∀ i : Nat, i < nb → κ 39 i = g (w i) := fun i hi => by rw [y1 39 (by decide)]; exact z3 i hi
          refine zfix_count nb (fun m a => ∃ μ : ZS, a = ((n : Int), (k : Int), (m : Int), μ) ∧ zsame [43] κ μ ∧ ∀ i : Nat, i < k → μ 43 i = g (rfold k (genP al k) w m i)) ?_ ?_ ⟨κ, rfl, zsame.refl _ _, y2⟩
          · rintro H m _ hm ⟨μ, rfl, x1, x2⟩ hH
            refine ⟨InRs (by omega) (by omega), by rw [hnk]; exact InRs (by omega) (by omega), fun e => by omega, fun _ => ⟨by omega, ?_⟩⟩
            rintro _ rfl
            have e3 : μ 39 (m : Int) = g (w m) := by rw [x1 39 (by decide)]; exact h39 m hm
            have e4 : μ 43 0 = g (rfold k (genP al k) w m 0) := x2 0 (by omega)
            rw [e3, e4, hG.x]
            obtain ⟨R, hR⟩ : ∃ R, R = rfold k (genP al k) w m := ⟨_, rfl⟩
            rw [← hR] at x2 ⊢
            refine zfix_count k (fun j a => ∃ υ : ZS, a = ((n : Int), (k : Int), (m : Int), g (w m + R 0), (j : Int), υ) ∧ zsame [43] κ υ ∧ ∀ i : Nat, i < k → υ 43 i = g (if i < j then rst k (genP al k) R (w m) i else R i)) ?_ ?_ ⟨μ, rfl, x1, x2⟩
            · rintro K j _ hj ⟨υ, rfl, u1, u3⟩ hK
              have fin : ∀ t0 : Int, t0 = g (if j + 1 < k then R (j + 1) else 0) → wc_X3_check_186 H K post (n : Int) (k : Int) (m : Int) (g (w m + R 0)) (j : Int) t0 (j : Int) υ := fun t0 ht0 => by
                refine ⟨by omega, ?_⟩
                have e1 : υ 38 ((j : Int) + 1) = g (genP al k (j + 1)) := by rw [u1 38 (by decide)]; exact h38 (j + 1) (by omega)
                rw [e1]
                refine lc_times hG (by rw [u1 36 (by decide), u1 37 (by decide)]; exact hT2) _ _ ⟨by omega, ?_⟩
                rintro _ rfl
                refine hK _ ⟨_, rfl, u1.st (by decide) _ _, fun i hi => ?_⟩
                rw [zst_at]
                by_cases e : i = j
                · have e6 : (if i < j + 1 then rst k (genP al k) R (w m) i else R i) = rst k (genP al k) R (w m) j := by rw [if_pos (by omega), e]
                  rw [if_pos (by omega), e6, ht0, hG.x]; rfl
                · rw [if_neg (by omega), u3 i hi]
                  by_cases e2 : i < j
                  · rw [if_pos e2, if_pos (by omega)]
                  · rw [if_neg e2, if_neg (by omega)]
              refine ⟨InRs (by omega) (by omega), InRs (by omega) (by omega), fun e => by omega, fun _ => ⟨InRs (by omega) (by omega), fun e => fin 0 (by rw [if_neg (by omega), hG.z]), fun e => ⟨by omega, fin _ ?_⟩⟩⟩
              rw [if_pos (by omega)]
              have := u3 (j + 1) (by omega)
              rw [if_neg (by omega)] at this
              exact this
            · rintro K _ ⟨υ, rfl, u1, u3⟩
              refine ⟨InRs (by omega) (by omega), InRs (by omega) (by omega), fun _ => ?_, fun e => by omega⟩
              refine hH _ ⟨υ, rfl, u1, fun i hi => ?_⟩
              rw [u3 i hi, if_pos hi, hR]; rfl
          · rintro H _ ⟨μ, rfl, x1, x2⟩
            refine ⟨InRs (by omega) (by omega), by rw [hnk]; exact InRs (by omega) (by omega), fun _ => ?_, fun e => by omega⟩
            have m2 : zsame [38, 39, 43] σ μ := m1.trans (x1.mono (fun c hc => by simp at hc ⊢; omega))
            refine zfix_count k (fun t a => ∃ υ : ZS, a = ((n : Int), (k : Int), (t : Int), υ) ∧ zsame [39] μ υ ∧ ∀ i : Nat, i < nb + t → υ 39 i = g (blkc al k nb w i)) ?_ ?_ ⟨μ, rfl, zsame.refl _ _, fun i hi => by
              rw [x1 39 (by decide), h39 i hi]; unfold blkc; rw [if_pos (by omega)]⟩
            · rintro K t _ ht ⟨υ, rfl, u1, u2⟩ hK
              refine ⟨InRs (by omega) (by omega), InRs (by omega) (by omega), fun e => by omega, fun _ => ⟨by omega, by omega, ?_⟩⟩
              rintro _ rfl
              have e1 : υ 43 (t : Int) = g (blkc al k nb w (nb + t)) := by
                rw [u1 43 (by decide), x2 t ht]; unfold blkc; rw [if_neg (by omega), Nat.add_sub_cancel_left]
              rw [e1]
              refine hK _ ⟨_, rfl, u1.st (by decide) _ _, fun i hi => ?_⟩
              rw [zst_at]
              by_cases e : i = nb + t
              · rw [if_pos (by omega), e]
              · rw [if_neg (by omega)]; exact u2 i (by omega)
            · rintro K _ ⟨υ, rfl, u1, u2⟩
              refine ⟨InRs (by omega) (by omega), InRs (by omega) (by omega), fun _ => ?_, fun e => by omega⟩
              exact h υ (m2.trans (u1.mono (fun c hc => by simp at hc ⊢; omega))) (fun i hi => u2 i (by omega))
