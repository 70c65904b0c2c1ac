/-! all blocks put right *(both)* -/
theorem natdiv (n m : Nat) : (n : Int) / (m : Int) = ((n / m : Nat) : Int) := by push_cast; rfl
def TabC (σ : ZS) : Prop := ∀ s : Nat, s < 30 → σ (2 + s) 0 = s ∧ σ (2 + s) 1 = zRows s ∧ σ (2 + s) 2 = zCols s ∧ σ (2 + s) 3 = zBelow s ∧ σ (2 + s) 4 = zBeside s ∧ σ (2 + s) 5 = zPR s ∧ σ (2 + s) 6 = zPC s ∧ σ (2 + s) 7 = zAll s ∧ σ (2 + s) 8 = zChk s ∧ σ (2 + s) 9 = zData s ∧ σ (2 + s) 10 = zBlk s
theorem TabC.same {Q : List Nat} {σ τ : ZS} (h : TabC σ) (hs : zsame Q σ τ) (h1 : ∀ q, q ∈ Q → q = 0 ∨ q = 1 ∨ 32 ≤ q) : TabC τ := fun s hss => by
  rw [hs (2 + s) (fun q => by have := h1 _ q; omega)]
  exact h s hss
def wspr {F : Type} [Lean.Grind.Field F] (W : Nat → F) (st b n : Nat) (c : Nat → F) : Nat → F := fun i => if i % st = b ∧ i / st < n then c (i / st) else W i
def wstr {F : Type} [Lean.Grind.Field F] (W : Nat → F) (st b : Nat) : Nat → F := fun m => W (b + m * st)
def fixOK {F : Type} [Lean.Grind.Field F] (al : F) (w : Nat → F) (n k : Nat) : Prop := ∃ p : (Nat → F) × Nat, ∃ pos, fixes al w n k p.1 p.2 pos
noncomputable def fixC {F : Type} [Lean.Grind.Field F] (al : F) (w : Nat → F) (n k : Nat) : (Nat → F) × Nat := @Classical.epsilon _ ⟨(w, 0)⟩ (fun p => ∃ pos, fixes al w n k p.1 p.2 pos)
theorem fixC_spec {F : Type} [Lean.Grind.Field F] {al : F} {w : Nat → F} {n k : Nat} (h : fixOK al w n k) : ∃ pos, fixes al w n k (fixC al w n k).1 (fixC al w n k).2 pos := Classical.epsilon_spec h
noncomputable def fixV {F : Type} [Lean.Grind.Field F] (al : F) (st k all : Nat) (W : Nat → F) : Nat → Nat → F
  | 0 => W
  | b + 1 => wspr (fixV al st k all W b) st b (cn st b all) (fixC al (wstr (fixV al st k all W b) st b) (cn st b all) k).1
noncomputable def fixT {F : Type} [Lean.Grind.Field F] (al : F) (st k all : Nat) (W : Nat → F) : Nat → Nat
  | 0 => 0
  | b + 1 => fixT al st k all W b + (fixC al (wstr (fixV al st k all W b) st b) (cn st b all) k).2
def fixG {F : Type} [Lean.Grind.Field F] (al : F) (st k all : Nat) (W : Nat → F) (B : Nat) : Prop := ∀ b, b < B → fixOK al (wstr (fixV al st k all W b) st b) (cn st b all) k
theorem fixT_le {F : Type} [Lean.Grind.Field F] {al : F} {st k all : Nat} {W : Nat → F} : ∀ {B}, fixG al st k all W B → 2 * fixT al st k all W B ≤ k * B
  | 0, _ => Nat.zero_le _
  | b + 1, h => by
    have h1 := fixT_le (B := b) (fun b' hb' => h b' (by omega))
    obtain ⟨pos, h2⟩ := fixC_spec (h b (by omega))
    have h3 := h2.2.2
    show 2 * (fixT al st k all W b + _) ≤ k * (b + 1)
    rw [Nat.mul_succ]; omega
theorem incr.ge {v : Nat} {pos : Nat → Nat} (h : incr v pos) : ∀ l, l < v → l ≤ pos l
  | 0, _ => Nat.zero_le _
  | l + 1, hl => by
    have := h.ge l (by omega)
    have := h l (l + 1) (by omega) hl
    omega
theorem incr.cut {v : Nat} {pos : Nat → Nat} (h : incr v pos) (n : Nat) : ∃ u, u ≤ v ∧ (∀ l, l < u → pos l < n) ∧ ∀ l, u ≤ l → l < v → n ≤ pos l := by
  induction v with
  | zero => exact ⟨0, Nat.le_refl _, fun l hl => by omega, fun l _ hl => by omega⟩
  | succ v ih =>
    obtain ⟨u, h1, h2, h3⟩ := ih (fun l m hl hm => h l m hl (by omega))
    by_cases e : u = v ∧ pos v < n
    · refine ⟨v + 1, Nat.le_refl _, fun l hl => ?_, fun l h4 h5 => by omega⟩
      by_cases e2 : l = v
      · rw [e2]; exact e.2
      · exact h2 l (by omega)
    · refine ⟨u, by omega, h2, fun l h4 h5 => ?_⟩
      by_cases e2 : l = v
      · rw [e2]
        by_cases e3 : u = v
        · have : ¬ pos v < n := fun q => e ⟨e3, q⟩
          omega
        · have := h3 u (Nat.le_refl _) (by omega)
          have := h u v (by omega) (by omega)
          omega
      · exact h3 l h4 (by omega)
/-- a row of places that lie in one of two rows is no longer than both -/
theorem incr_union {t a b : Nat} {r p q : Nat → Nat} (hr : incr t r) (hp : incr a p) (hq : incr b q) (h : ∀ l, l < t → (∃ m, m < a ∧ p m = r l) ∨ ∃ m, m < b ∧ q m = r l) : t ≤ a + b := by
  induction t generalizing a b with
  | zero => omega
  | succ t ih =>
    have hlt : ∀ l, l < t → r l < r t := fun l hl => hr l t hl (by omega)
    obtain ⟨a', ha1, ha2, ha3⟩ := hp.cut (r t)
    obtain ⟨b', hb1, hb2, hb3⟩ := hq.cut (r t)
    have h1 := ih (a := a') (b := b') (fun l m hl hm => hr l m hl (by omega)) (fun l m hl hm => hp l m hl (by omega)) (fun l m hl hm => hq l m hl (by omega)) (fun l hl => by
      have := hlt l hl
      rcases h l (by omega) with ⟨m, hm, e⟩ | ⟨m, hm, e⟩
      · refine .inl ⟨m, ?_, e⟩
        rcases Nat.lt_or_ge m a' with q2 | q2
        · exact q2
        · have := ha3 m q2 hm; omega
      · refine .inr ⟨m, ?_, e⟩
        rcases Nat.lt_or_ge m b' with q2 | q2
        · exact q2
        · have := hb3 m q2 hm; omega)
    rcases h t (by omega) with ⟨m, hm, e⟩ | ⟨m, hm, e⟩
    · have : a' ≤ m := by
        rcases Nat.lt_or_ge m a' with q2 | q2
        · have := ha2 m q2; omega
        · exact q2
      omega
    · have : b' ≤ m := by
        rcases Nat.lt_or_ge m b' with q2 | q2
        · have := hb2 m q2; omega
        · exact q2
      omega
/-- there is one row at most *(with all sums 0, within half of k)* -/
theorem fixes.same {F : Type} [Lean.Grind.Field F] {g : F → Int} {al : F} (hG : GOK g al) {w c d : Nat → F} {n k u v : Nat} {pos qos : Nat → Nat} (h : fixes al w n k c u pos) (hn : n ≤ 255) (h' : fixes al w n k d v qos) : v = u ∧ ∀ i, i < n → d i = c i := by
  have hcd : ∀ i, i < n → d i = c i := by
    obtain ⟨m, ros, r1, r2, r3⟩ := incr_of (fun i => c i ≠ d i) n
    have hz : ∀ j, j < k → gsum (fun l => (c (ros l) - d (ros l)) * al ^ (n - 1 - ros l) * (al ^ (n - 1 - ros l)) ^ j) m = 0 := fun j hj => by
      have e1 : syn al c n j - syn al d n j = 0 := by rw [h.1 j hj, h'.1 j hj]; grind
      unfold syn at e1
      rw [hor_sum, hor_sum, ← gsum_sub] at e1
      have e2 : gsum (fun i => c i * (al ^ (j + 1)) ^ (n - 1 - i) - d i * (al ^ (j + 1)) ^ (n - 1 - i)) n = gsum (fun i => (c i - d i) * (al ^ (j + 1)) ^ (n - 1 - i)) n := gsum_congr (fun i _ => by grind)
      rw [e2, gsum_pos _ ros n m r1 r2 (fun i hi q => (r3 i hi).mp (fun e3 => q (by rw [e3]; grind)))] at e1
      rw [← e1]
      exact gsum_congr (fun l _ => by
        rw [gpow_pow, gpow_pow, show (j + 1) * (n - 1 - ros l) = (n - 1 - ros l) * j + (n - 1 - ros l) from by rw [Nat.succ_mul, Nat.mul_comm], gpow_add]; grind)
    have hm : m ≤ u + v := by
      obtain ⟨t, tos, s1, s2, s3⟩ := incr_of (fun i => w i ≠ c i ∨ w i ≠ d i) n
      have a1 : m ≤ t := r1.le s1 (fun l hl => by
        have e1 := (r3 (ros l) (r2 l hl)).mpr ⟨l, hl, rfl⟩
        refine (s3 (ros l) (r2 l hl)).mp ?_
        rcases Classical.em (w (ros l) = c (ros l)) with e2 | e2
        · exact .inr (fun e3 => e1 (by rw [← e2, e3]))
        · exact .inl e2)
      have a2 : t ≤ u + v := incr_union s1 h.2.1.2.1 h'.2.1.2.1 (fun l hl => by
        rcases (s3 (tos l) (s2 l hl)).mpr ⟨l, hl, rfl⟩ with e2 | e2
        · exact .inl ((h.2.1.2.2 _ (s2 l hl)).mp e2)
        · exact .inr ((h'.2.1.2.2 _ (s2 l hl)).mp e2))
      omega
    have h1 := h.2.2
    have h2 := h'.2.2
    have hv := pvander m (fun l => (c (ros l) - d (ros l)) * al ^ (n - 1 - ros l)) (fun l => al ^ (n - 1 - ros l)) (fun j hj => hz j (by omega)) (fun i j hi hj e => by
      have q1 := r2 i hi
      have q2 := r2 j hj
      have := hG.d (by omega) (by omega) e
      exact r1.inj hi hj (by omega))
    intro i hi
    rcases Classical.em (c i = d i) with e | e
    · exact e.symm
    · obtain ⟨l, hl, q⟩ := (r3 i hi).mp e
      have e2 := hv l hl
      have e3 := gpow_ne hG.ne (n - 1 - ros l)
      exfalso
      apply e
      have e4 : c (ros l) - d (ros l) = 0 := gmul0 (a := al ^ (n - 1 - ros l)) (by grind) e3
      rw [← q]; exact gsub0 e4
  refine ⟨?_, hcd⟩
  have a1 : v ≤ u := h'.2.1.2.1.le h.2.1.2.1 (fun l hl => by
    have q := (h'.2.1.2.2 (qos l) (h'.2.1.1 l hl)).mpr ⟨l, hl, rfl⟩
    rw [hcd _ (h'.2.1.1 l hl)] at q
    exact (h.2.1.2.2 _ (h'.2.1.1 l hl)).mp q)
  have a2 : u ≤ v := h.2.1.2.1.le h'.2.1.2.1 (fun l hl => by
    have q := (h.2.1.2.2 (pos l) (h.2.1.1 l hl)).mpr ⟨l, hl, rfl⟩
    rw [← hcd _ (h.2.1.1 l hl)] at q
    exact (h'.2.1.2.2 _ (h.2.1.1 l hl)).mp q)
  omega
theorem cn_le {st b all B : Nat} (hst : st = 1 ∨ st = 2 ∨ st = 4 ∨ st = 6 ∨ st = 8 ∨ st = 10) (h : all ≤ B * st) : cn st b all ≤ B := by
  unfold cn
  rcases hst with rfl | rfl | rfl | rfl | rfl | rfl <;> omega
theorem lm_mendAll_20 {F : Type} [Lean.Grind.Field F] {g : F → Int} {al : F} (hG : GOK g al) {σ : ZS} {post : Int → ZS → Prop} (hT : GFT g al (σ 7) (σ 8)) {s st k data all : Nat} (hs30 : s < 30) (h4 : σ 4 s = st) (hst : st = 1 ∨ st = 2 ∨ st = 4 ∨ st = 6 ∨ st = 8 ∨ st = 10) (t3 : all = data + k * st) (t5 : k ≤ 68) (t6 : all ≤ 255 * st) (hall : all ≤ 2178) (W : Nat → F) (hW : ∀ i : Nat, i < all → σ 13 i = g (W i)) (h29 : σ 0 29 = 0)
    (h1 : fixG al st k all W st → ∀ τ, zsame [0, 13, 16, 17, 18, 19, 20] σ τ → (∀ f, f ≠ 25 → f ≠ 29 → τ 0 f = σ 0 f) → τ 0 29 = fixT al st k all W st → (∀ i : Nat, i < all → τ 13 i = g (fixV al st k all W st i)) → post 1 τ)
    (h0 : ¬ fixG al st k all W st → ∀ τ, zsame [0, 13, 16, 17, 18, 19, 20] σ τ → (∀ f, f ≠ 25 → f ≠ 29 → τ 0 f = σ 0 f) → post 0 τ) : ∃ N : Nat, zfix (wbm_mendAll_20 post) N ((s : Int), (all : Int), (data : Int), 0, σ) := by
  refine zfix_count st (fun b a => ∃ τ : ZS, a = ((s : Int), (all : Int), (data : Int), (b : Int), τ) ∧ zsame [0, 13, 16, 17, 18, 19, 20] σ τ ∧ (∀ f, f ≠ 25 → f ≠ 29 → τ 0 f = σ 0 f) ∧ τ 0 29 = fixT al st k all W b ∧ (∀ i : Nat, i < all → τ 13 i = g (fixV al st k all W b i)) ∧ fixG al st k all W b) ?_ ?_ ⟨σ, rfl, zsame.refl _ _, fun _ _ _ => rfl, h29, hW, fun b hb => by omega⟩
  · rintro C b _ hb ⟨τ, rfl, g1, g2, g3, g4, g5⟩ hC
    have t4 : τ 4 (s : Int) = st := by rw [g1 4 (by decide)]; exact h4
    refine ⟨by omega, InRs (by omega) (by omega), by rw [t4]; exact InRs (by omega) (by omega), fun e => by rw [t4] at e; omega, fun _ => ?_⟩
    rintro _ rfl
    obtain ⟨n, hn⟩ : ∃ n, n = cn st b all := ⟨_, rfl⟩
    have hn255 : n ≤ 255 := by rw [hn]; exact cn_le hst t6
    have hnd : n = cn st b data + k := by rw [hn, t3, cn_add hst hb]
    refine zfix_count n (fun m a => ∃ υ : ZS, a = ((s : Int), (all : Int), (data : Int), (b : Int), ((m - cn st b data : Nat) : Int), ((b + m * st : Nat) : Int), υ) ∧ zsame [0, 17] τ υ ∧ (∀ f, f ≠ 25 → υ 0 f = τ 0 f) ∧ υ 0 25 = m ∧ ∀ i : Nat, i < m → υ 17 i = g (wstr (fixV al st k all W b) st b i)) ?_ ?_ ⟨_, by rw [Nat.zero_sub, Nat.zero_mul]; rfl, (zsame.refl _ _).st (by decide) _ _, fun f hf => zst_place hf, zst_self _ _ _ _, fun i hi => by omega⟩
    · rintro D m _ hm ⟨υ, rfl, k1, k2, k3, k4⟩ hD
      have hlt : b + m * st < all := (cn_lt hst hb).mp (by omega)
      have hltd := cn_lt (m := m) (n := data) hst hb
      refine ⟨InRs (by omega) (by omega), InRs (by omega) (by omega), fun e => by omega, fun _ => ⟨by omega, by rw [k3]; omega, ?_⟩⟩
      rintro _ rfl _ rfl
      have e1 : υ 13 ((b + m * st : Nat) : Int) = g (wstr (fixV al st k all W b) st b m) := by rw [k1 13 (by decide)]; exact g4 _ hlt
      rw [k3, e1]
      obtain ⟨ω, hω⟩ : ∃ ω, ω = zst (zst υ 17 (m : Int) (g (wstr (fixV al st k all W b) st b m))) 0 25 (zst υ 17 (m : Int) (g (wstr (fixV al st k all W b) st b m)) 0 25 + 1) := ⟨_, rfl⟩
      have o1 : zsame [0, 17] τ ω := by rw [hω]; exact (k1.st (by decide) _ _).st (by decide) _ _
      have o2 : ∀ f, f ≠ 25 → ω 0 f = τ 0 f := fun f hf => by rw [hω, zst_place hf, zst_cell (by decide)]; exact k2 f hf
      have o3 : ω 0 25 = ((m + 1 : Nat) : Int) := by rw [hω, zst_self, zst_cell (by decide), k3]; rfl
      have o4 : ∀ i : Nat, i < m + 1 → ω 17 i = g (wstr (fixV al st k all W b) st b i) := fun i hi => by
        rw [hω, zst_cell (by decide), zst_at]
        by_cases e5 : i = m
        · rw [if_pos (by omega), e5]
        · rw [if_neg (by omega)]; exact k4 i (by omega)
      have fin : ∀ t0 : Int, t0 = (if m < cn st b data then 0 else 1) → wm_mendAll_88 C D post (s : Int) (all : Int) (data : Int) (b : Int) ((b + m * st : Nat) : Int) t0 ((m - cn st b data : Nat) : Int) ω := fun t0 ht0 => by
        rintro _ rfl
        refine ⟨by omega, ?_⟩
        rintro _ rfl
        have e4 : ω 4 (s : Int) = st := by rw [o1 4 (by decide)]; exact t4
        rw [e4]
        refine hD _ ⟨ω, ?_, o1, o2, o3, o4⟩
        have e5 : ((m - cn st b data : Nat) : Int) + t0 = ((m + 1 - cn st b data : Nat) : Int) := by
          rw [ht0]; split <;> omega
        have e6 : ((b + m * st : Nat) : Int) + (st : Int) = ((b + (m + 1) * st : Nat) : Int) := by
          rw [Nat.add_mul, Nat.one_mul]; omega
        rw [e5, e6]
      rw [← hω]
      refine ⟨InRs (by omega) (by omega), fun e => ?_, fun e => ?_⟩
      · exact fin 1 (by rw [if_neg (fun q => by have := hltd.mp q; omega)])
      · exact fin 0 (by rw [if_pos (hltd.mpr (by omega))])
    · rintro D _ ⟨υ, rfl, k1, k2, k3, k4⟩
      have hge : all ≤ b + n * st := by
        rcases Nat.lt_or_ge (b + n * st) all with q | q
        · have := (cn_lt hst hb).mpr q; omega
        · exact q
      have hle : b + n * st ≤ 10 + 255 * 10 := by
        have : n * st ≤ 255 * 10 := Nat.mul_le_mul hn255 (by omega)
        omega
      refine ⟨InRs (by omega) (by omega), InRs (by omega) (by omega), fun _ => ?_, fun e => by omega⟩
      have en : n - cn st b data = k := by omega
      rw [en]
      have m1 : zsame [0, 13, 16, 17, 18, 19, 20] σ υ := g1.trans (k1.mono (fun c hc => by simp at hc ⊢; omega))
      have hf0 : ∀ ω : ZS, (∀ f, f ≠ 29 → ω 0 f = υ 0 f) → ∀ f, f ≠ 25 → f ≠ 29 → ω 0 f = σ 0 f := fun ω h f hf1 hf2 => by rw [h f hf2, k2 f hf1, g2 f hf1 hf2]
      have mm : ∀ ω, zsame [0, 16, 17, 18, 19, 20] υ ω → zsame [0, 13, 16, 17, 18, 19, 20] σ ω := fun ω h => m1.trans (h.mono (fun c hc => by simp at hc ⊢; omega))
      have hcall : ∀ P : Int → ZS → Prop, (fixOK al (wstr (fixV al st k all W b) st b) n k → ∀ ω, zsame [0, 16, 17, 18, 19, 20] υ ω → (∀ f, f ≠ 29 → ω 0 f = υ 0 f) → ω 0 29 = υ 0 29 + ((fixC al (wstr (fixV al st k all W b) st b) n k).2 : Nat) → (∀ i : Nat, i < n → ω 17 i = g ((fixC al (wstr (fixV al st k all W b) st b) n k).1 i)) → P 1 ω) → (¬ fixOK al (wstr (fixV al st k all W b) st b) n k → ∀ ω, zsame [0, 16, 17, 18, 19, 20] υ ω → (∀ f, f ≠ 29 → ω 0 f = υ 0 f) → P 0 ω) → wm_mend k υ P := by
        intro P p1 p0
        have hT2 : GFT g al (υ 7) (υ 8) := by rw [m1 7 (by decide), m1 8 (by decide)]; exact hT
        rcases Classical.em (fixOK al (wstr (fixV al st k all W b) st b) n k) with hok | hok
        · obtain ⟨pos, hf⟩ := fixC_spec hok
          refine lm_mend hG hT2 t5 hn255 k3 _ k4 (fun c v pos' hf' ω w1 w2 w3 w4 => ?_) (fun hno => absurd ⟨_, _, pos, hf⟩ hno)
          obtain ⟨u1, u2⟩ := hf.same hG hn255 hf'
          refine p1 hok ω w1 w2 (by rw [w3, u1]) (fun i hi => by rw [w4 i hi, u2 i hi])
        · exact lm_mend hG hT2 t5 hn255 k3 _ k4 (fun c v pos' hf' => absurd ⟨(c, v), pos', hf'⟩ hok) (fun _ ω w1 w2 => p0 hok ω w1 w2)
      refine hcall _ (fun hok ω w1 w2 w3 w4 => ?_) (fun hok ω w1 w2 => ?_)
      · rintro -
        refine ⟨fun _ => ?_, fun e => absurd e (by decide)⟩
        have hGb : fixG al st k all W (b + 1) := fun b' hb' => by
          by_cases e : b' = b
          · subst e; rw [← hn]; exact hok
          · exact g5 b' (by omega)
        refine zfix_count n (fun m a => ∃ κ : ZS, a = ((s : Int), (all : Int), (data : Int), (b : Int), (m : Int), κ) ∧ zsame [13] ω κ ∧ ∀ i : Nat, i < all → κ 13 i = g (wspr (fixV al st k all W b) st b m (fixC al (wstr (fixV al st k all W b) st b) n k).1 i)) ?_ ?_ ⟨ω, rfl, zsame.refl _ _, fun i hi => by
          rw [w1 13 (by decide), k1 13 (by decide), g4 i hi]; unfold wspr; rw [if_neg (fun q => Nat.not_lt_zero _ q.2)]⟩
        · rintro E m _ hm ⟨κ, rfl, y1, y2⟩ hE
          have hlt : b + m * st < all := (cn_lt hst hb).mp (by omega)
          have x25 : κ 0 25 = n := by rw [y1 0 (by decide), w2 25 (by decide)]; exact k3
          have x4 : κ 4 (s : Int) = st := by rw [y1 4 (by decide), w1 4 (by decide), k1 4 (by decide)]; exact t4
          have em : (b : Int) + (m : Int) * κ 4 (s : Int) = ((b + m * st : Nat) : Int) := by rw [x4]; push_cast; rfl
          refine ⟨InRs (by omega) (by omega), by rw [x25]; exact InRs (by omega) (by omega), fun e => by rw [x25] at e; omega, fun _ => ⟨by omega, by omega, by rw [em]; omega, ?_⟩⟩
          rintro _ rfl
          have x17 : κ 17 (m : Int) = g ((fixC al (wstr (fixV al st k all W b) st b) n k).1 m) := by rw [y1 17 (by decide)]; exact w4 m hm
          rw [em, x17]
          refine hE _ ⟨_, rfl, y1.st (by decide) _ _, fun i hi => ?_⟩
          rw [zst_at]
          by_cases e5 : i = b + m * st
          · obtain ⟨d1, d2⟩ := cn_dm (m := m) hst hb
            rw [if_pos (by omega), e5]; unfold wspr; rw [d1, d2, if_pos (by omega)]
          · rw [if_neg (by omega), y2 i hi]
            unfold wspr
            have d := (cn_dm2 (i := i) hst).2
            by_cases e6 : i % st = b ∧ i / st < m
            · rw [if_pos e6, if_pos (by omega)]
            · rw [if_neg e6, if_neg (fun q => by
                have e7 : i / st = m := by omega
                rw [e7, q.1] at d; omega)]
        · rintro E _ ⟨κ, rfl, y1, y2⟩
          have x25 : κ 0 25 = n := by rw [y1 0 (by decide), w2 25 (by decide)]; exact k3
          refine ⟨InRs (by omega) (by omega), by rw [x25]; exact InRs (by omega) (by omega), fun _ => ?_, fun e => by rw [x25] at e; omega⟩
          refine hC _ ⟨κ, rfl, (mm ω w1).trans (y1.mono (fun c hc => by simp at hc ⊢; omega)), fun f hf1 hf2 => by rw [y1 0 (by decide)]; exact hf0 ω w2 f hf1 hf2, ?_, fun i hi => ?_, hGb⟩
          · rw [y1 0 (by decide), w3, k2 29 (by decide), g3]
            show _ = ((fixT al st k all W b + _ : Nat) : Int)
            rw [← hn]; push_cast; rfl
          · rw [y2 i hi]
            show _ = g (wspr (fixV al st k all W b) st b (cn st b all) (fixC al (wstr (fixV al st k all W b) st b) (cn st b all) k).1 i)
            rw [← hn]
      · rintro -
        refine ⟨fun e => absurd rfl e, fun _ => ?_⟩
        exact h0 (fun q => hok (by rw [hn]; exact q b hb)) ω (mm ω w1) (hf0 ω w2)
  · rintro C _ ⟨τ, rfl, g1, g2, g3, g4, g5⟩
    have t4 : τ 4 (s : Int) = st := by rw [g1 4 (by decide)]; exact h4
    refine ⟨by omega, InRs (by omega) (by omega), by rw [t4]; exact InRs (by omega) (by omega), fun _ => h1 g5 τ g1 g2 g3 g4, fun e => by rw [t4] at e; omega⟩
