/-! wrong numbers of a block *(the plain form)* -/
theorem gpow_pow {F : Type} [Lean.Grind.Field F] (a : F) (m : Nat) : ∀ n : Nat, (a ^ m) ^ n = a ^ (m * n)
  | 0 => by rw [gpow_zero, Nat.mul_zero, gpow_zero]
  | n + 1 => by rw [gpow_succ, gpow_pow a m n, Nat.mul_succ, gpow_add]
/-- places in order -/
def incr (v : Nat) (pos : Nat → Nat) : Prop := ∀ l m, l < m → m < v → pos l < pos m
theorem incr.inj {v : Nat} {pos : Nat → Nat} (h : incr v pos) {l m : Nat} (hl : l < v) (hm : m < v) (e : pos l = pos m) : l = m := by
  rcases Nat.lt_trichotomy l m with q | q | q
  · have := h l m q hm; omega
  · exact q
  · have := h m l q hl; omega
theorem incr.le {a b : Nat} {pos q : Nat → Nat} (hp : incr a pos) (hq : incr b q) (h : ∀ l, l < a → ∃ m, m < b ∧ q m = pos l) : a ≤ b := by
  have key : ∀ l, l < a → ∀ m, m < b → q m = pos l → l ≤ m := by
    intro l
    induction l with
    | zero => intro _ m _ _; omega
    | succ l ih =>
      intro hl m hm e
      obtain ⟨m', hm', e'⟩ := h l (by omega)
      have h1 := ih (by omega) m' hm' e'
      have h2 := hp l (l + 1) (by omega) hl
      rcases Nat.lt_or_ge m' m with q2 | q2
      · omega
      · rcases Nat.lt_or_ge m m' with q3 | q3
        · have := hq m m' q3 hm'; omega
        · have : m = m' := by omega
          subst this; omega
  rcases Nat.eq_zero_or_pos a with e | e
  · omega
  · obtain ⟨m, hm, e2⟩ := h (a - 1) (by omega)
    have := key (a - 1) (by omega) m hm e2
    omega
theorem incr_of (P : Nat → Prop) : ∀ n, ∃ v pos, incr v pos ∧ (∀ l, l < v → pos l < n) ∧ ∀ i, i < n → (P i ↔ ∃ l, l < v ∧ pos l = i)
  | 0 => ⟨0, fun _ => 0, fun l m _ h => by omega, fun l h => by omega, fun i h => by omega⟩
  | n + 1 => by
    obtain ⟨v, pos, h1, h2, h3⟩ := incr_of P n
    rcases Classical.em (P n) with hP | hP
    · refine ⟨v + 1, fun l => if l = v then n else pos l, fun l m hl hm => ?_, fun l hl => ?_, fun i hi => ?_⟩
      · dsimp only
        rw [if_neg (by omega)]
        by_cases e : m = v
        · rw [if_pos e]; exact h2 l (by omega)
        · rw [if_neg e]; exact h1 l m hl (by omega)
      · dsimp only
        by_cases e : l = v
        · rw [if_pos e]; omega
        · rw [if_neg e]; have := h2 l (by omega); omega
      · by_cases e : i = n
        · subst e
          exact ⟨fun _ => ⟨v, by omega, if_pos rfl⟩, fun _ => hP⟩
        · rw [h3 i (by omega)]
          constructor
          · rintro ⟨l, hl, q⟩; exact ⟨l, by omega, by dsimp only; rw [if_neg (by omega)]; exact q⟩
          · rintro ⟨l, hl, q⟩
            dsimp only at q
            by_cases e2 : l = v
            · rw [if_pos e2] at q; omega
            · rw [if_neg e2] at q; exact ⟨l, by omega, q⟩
    · refine ⟨v, pos, h1, fun l hl => by have := h2 l hl; omega, fun i hi => ?_⟩
      by_cases e : i = n
      · subst e
        exact ⟨fun q => absurd q hP, fun ⟨l, hl, q⟩ => by have := h2 l hl; omega⟩
      · exact h3 i (by omega)
theorem gsum_pos {F : Type} [Lean.Grind.Field F] (f : Nat → F) (pos : Nat → Nat) : ∀ (n v : Nat), incr v pos → (∀ l, l < v → pos l < n) → (∀ i, i < n → f i ≠ 0 → ∃ l, l < v ∧ pos l = i) → gsum f n = gsum (fun l => f (pos l)) v
  | 0, v, _, h2, _ => by
    rcases Nat.eq_zero_or_pos v with e | e
    · subst e; rfl
    · have := h2 0 e; omega
  | n + 1, v, h1, h2, h3 => by
    rw [gsum_succ]
    by_cases e : 0 < v ∧ pos (v - 1) = n
    · obtain ⟨u, rfl⟩ : ∃ u, v = u + 1 := ⟨v - 1, by omega⟩
      rw [Nat.add_sub_cancel] at e
      rw [gsum_succ, e.2, gsum_pos f pos n u (fun l m hl hm => h1 l m hl (by omega)) (fun l hl => by have := h1 l u hl (by omega); omega) (fun i hi q => ?_)]
      obtain ⟨l, hl, q2⟩ := h3 i (by omega) q
      refine ⟨l, ?_, q2⟩
      rcases Nat.lt_or_ge l u with q3 | q3
      · exact q3
      · have : l = u := by omega
        subst this; omega
    · have hlt : ∀ l, l < v → pos l < n := fun l hl => by
        have h4 := h2 l hl
        rcases Nat.lt_or_ge (pos l) n with q | q
        · exact q
        · exfalso
          rcases Nat.lt_or_ge l (v - 1) with q2 | q2
          · have h5 := h1 l (v - 1) q2 (by omega)
            have h6 := h2 (v - 1) (by omega)
            omega
          · have : l = v - 1 := by omega
            subst this
            exact e ⟨by omega, by omega⟩
      have hfn : f n = 0 := by
        rcases Classical.em (f n = 0) with q | q
        · exact q
        · obtain ⟨l, hl, q2⟩ := h3 n (by omega) q
          have := hlt l hl; omega
      rw [hfn, gsum_pos f pos n v h1 hlt (fun i hi q => h3 i (by omega) q)]; grind
/-- a row with wrong numbers at some places -/
def werr {F : Type} [Lean.Grind.Field F] (w c : Nat → F) (n v : Nat) (pos : Nat → Nat) : Prop := (∀ l, l < v → pos l < n) ∧ incr v pos ∧ ∀ i, i < n → (w i ≠ c i ↔ ∃ l, l < v ∧ pos l = i)
/-- the row with all sums 0 that differs in half of k at most -/
def fixes {F : Type} [Lean.Grind.Field F] (al : F) (w : Nat → F) (n k : Nat) (c : Nat → F) (v : Nat) (pos : Nat → Nat) : Prop := (∀ j, j < k → syn al c n j = 0) ∧ werr w c n v pos ∧ 2 * v ≤ k
def eX {F : Type} [Lean.Grind.Field F] (al : F) (n : Nat) (pos : Nat → Nat) (l : Nat) : F := al ^ (n - 1 - pos l)
def eY {F : Type} [Lean.Grind.Field F] (w c : Nat → F) (pos : Nat → Nat) (l : Nat) : F := w (pos l) - c (pos l)
theorem fixes.sums {F : Type} [Lean.Grind.Field F] {al : F} {w c : Nat → F} {n k v : Nat} {pos : Nat → Nat} (h : fixes al w n k c v pos) {j : Nat} (hj : j < k) : syn al w n j = ssum v (eX al n pos) (eY w c pos) j := by
  have h1 := h.1 j hj
  have e : syn al w n j = gsum (fun i => (w i - c i) * (al ^ (j + 1)) ^ (n - 1 - i)) n := by
    have e1 : syn al w n j = syn al w n j - syn al c n j := by rw [h1]; grind
    rw [e1]
    unfold syn
    rw [hor_sum, hor_sum, ← gsum_sub]
    exact gsum_congr (fun i _ => by grind)
  rw [e, gsum_pos _ pos n v h.2.1.2.1 h.2.1.1 (fun i hi q => (h.2.1.2.2 i hi).mp (fun e2 => q (by rw [e2]; grind)))]
  exact gsum_congr (fun l _ => by
    unfold eY eX
    rw [gpow_pow, gpow_pow, Nat.mul_comm])
theorem fixes.dist {F : Type} [Lean.Grind.Field F] {g : F → Int} {al : F} (hG : GOK g al) {w c : Nat → F} {n k v : Nat} {pos : Nat → Nat} (h : fixes al w n k c v pos) (hn : n ≤ 255) : ∀ i j, i < v → j < v → eX al n pos i = eX al n pos j → i = j := fun i j hi hj e => by
  have h1 := h.2.1.1 i hi
  have h2 := h.2.1.1 j hj
  have := hG.d (by omega) (by omega) e
  exact h.2.1.2.1.inj hi hj (by omega)
theorem fixes.x0 {F : Type} [Lean.Grind.Field F] {g : F → Int} {al : F} (hG : GOK g al) {n v : Nat} {pos : Nat → Nat} : ∀ l, l < v → eX al n pos l ≠ 0 := fun _ _ => gpow_ne hG.ne _
theorem fixes.y0 {F : Type} [Lean.Grind.Field F] {al : F} {w c : Nat → F} {n k v : Nat} {pos : Nat → Nat} (h : fixes al w n k c v pos) : ∀ l, l < v → eY w c pos l ≠ 0 := fun l hl e =>
  (h.2.1.2.2 (pos l) (h.2.1.1 l hl)).mpr ⟨l, hl, rfl⟩ (gsub0 e)
/-- with all sums 0 nothing is wrong -/
theorem fixes.right {F : Type} [Lean.Grind.Field F] {g : F → Int} {al : F} (hG : GOK g al) {w c : Nat → F} {n k v : Nat} {pos : Nat → Nat} (h : fixes al w n k c v pos) (hn : n ≤ 255) (h0 : ∀ j, j < k → syn al w n j = 0) : v = 0 ∧ ∀ i, i < n → w i = c i := by
  have hv : v = 0 := by
    rcases Nat.eq_zero_or_pos v with e | e
    · exact e
    · exfalso
      have h1 := pvander v (fun l => eY w c pos l * eX al n pos l) (eX al n pos) (fun m hm => by
        have e1 := h.sums (j := m) (by have := h.2.2; omega)
        rw [h0 m (by have := h.2.2; omega)] at e1
        rw [e1]
        unfold ssum
        exact gsum_congr (fun l _ => by rw [gpow_succ]; grind)) (h.dist hG hn) 0 e
      exact h.y0 0 e (gmul0 (a := eX al n pos 0) (by grind) (fixes.x0 hG 0 e))
  subst hv
  refine ⟨rfl, fun i hi => ?_⟩
  rcases Classical.em (w i = c i) with e | e
  · exact e
  · obtain ⟨l, hl, _⟩ := (h.2.1.2.2 i hi).mp e
    omega
/-- numbers laid over a row -/
def wadd {F : Type} [Lean.Grind.Field F] (w : Nat → F) (q : Nat → Nat) (a : Nat → F) (v : Nat) : Nat → F := fun i => w i + gsum (fun l => if q l = i then a l else 0) v
def wcnt {F : Type} [Lean.Grind.Field F] (g : F → Int) (a : Nat → F) : Nat → Int
  | 0 => 0
  | v + 1 => wcnt g a v + (if g (a v) = 0 then 0 else 1)
theorem fixes.add {F : Type} [Lean.Grind.Field F] {al : F} (h2 : ∀ a : F, a + a = 0) {w c : Nat → F} {n k v : Nat} {pos : Nat → Nat} (h : fixes al w n k c v pos) {i : Nat} (hi : i < n) : wadd w pos (eY w c pos) v i = c i := by
  unfold wadd
  by_cases e : w i = c i
  · rw [gsum_nil (fun l hl => if_neg (fun q => (h.2.1.2.2 i hi).mpr ⟨l, hl, q⟩ e)), e]; grind
  · obtain ⟨l, hl, q⟩ := (h.2.1.2.2 i hi).mp e
    rw [gsum_one hl (fun m hm hne => if_neg (fun q2 => hne (h.2.1.2.1.inj hm hl (by omega)))), if_pos q]
    unfold eY
    rw [q]
    have := h2 (w i)
    have := h2 (c i)
    grind
theorem wcnt_all {F : Type} [Lean.Grind.Field F] {g : F → Int} {al : F} (hG : GOK g al) {a : Nat → F} : ∀ {v : Nat}, (∀ l, l < v → a l ≠ 0) → wcnt g a v = v
  | 0, _ => rfl
  | v + 1, h => by
    show wcnt g a v + _ = _
    rw [wcnt_all hG (fun l hl => h l (by omega)), if_neg (fun e => h v (by omega) ((hG.e0 _).mp e))]; rfl
/-- what a row differs in by numbers laid over it *(at v places)* -/
theorem fixes.of {F : Type} [Lean.Grind.Field F] {al : F} {w a : Nat → F} {n k v : Nat} {q : Nat → Nat} (h0 : ∀ j, j < k → syn al (wadd w q a v) n j = 0) (hq : incr v q) (hv : 2 * v ≤ k) : ∃ c u pos, fixes al w n k c u pos := by
  obtain ⟨u, pos, h1, h2, h3⟩ := incr_of (fun i => w i ≠ wadd w q a v i) n
  refine ⟨wadd w q a v, u, pos, h0, ⟨h2, h1, h3⟩, ?_⟩
  have : u ≤ v := h1.le hq (fun l hl => by
    have h4 := (h3 (pos l) (h2 l hl)).mpr ⟨l, hl, rfl⟩
    rcases Classical.em (∃ m, m < v ∧ q m = pos l) with e | e
    · exact e
    · exfalso; apply h4
      unfold wadd
      rw [gsum_nil (fun m hm => if_neg (fun e2 => e ⟨m, hm, e2⟩))]; grind)
  omega
/-- the places that the answer tells -/
theorem lm_places {F : Type} [Lean.Grind.Field F] {g : F → Int} {al : F} (hG : GOK g al) {σ : ZS} {post : Int → ZS → Prop} (hT : GFT g al (σ 7) (σ 8)) {v n : Nat} (hv : v ≤ 34) (hn : n ≤ 255) (h25 : σ 0 25 = n) (a : Nat → F) (ha : ∀ i : Nat, i < v → σ 20 i = g (a i))
    (h : ∀ r τ, zsame [19] σ τ → (r = 0 ∨ r = 1) → (r = 1 → ∃ q, incr v q ∧ (∀ l, l < v → q l < n) ∧ ∀ l : Nat, l < v → τ 19 l = q l) → (∀ pos, incr v pos → (∀ l, l < v → pos l < n) → (∀ p, p < n → (pev (ptop a v) (v + 1) (al ^ (n - 1 - p)) = 0 ↔ ∃ l, l < v ∧ pos l = p)) → r = 1 ∧ ∀ l : Nat, l < v → τ 19 l = pos l) → post r τ) : wm_places v σ post := by
  refine zfix_count n (fun p s => ∃ (m : Nat) (q : Nat → Nat) (τ : ZS), s = ((v : Int), (m : Int), (p : Int), τ) ∧ zsame [19] σ τ ∧ m ≤ v ∧ incr m q ∧ (∀ l, l < m → q l < p) ∧ (∀ l : Nat, l < m → τ 19 l = q l) ∧ ∀ pos, incr v pos → (∀ l, l < v → pos l < n) → (∀ p, p < n → (pev (ptop a v) (v + 1) (al ^ (n - 1 - p)) = 0 ↔ ∃ l, l < v ∧ pos l = p)) → (∀ l, l < m → q l = pos l) ∧ ∀ l, m ≤ l → l < v → p ≤ pos l) ?_ ?_ ⟨0, fun _ => 0, σ, rfl, zsame.refl _ _, Nat.zero_le _, fun l m _ hm => by omega, fun l hl => by omega, fun l hl => by omega, fun pos _ _ _ => ⟨fun l hl => by omega, fun l _ _ => Nat.zero_le _⟩⟩
  · rintro C p _ hp ⟨m, q, τ, rfl, hs, hm, hq, hqp, hqv, hc⟩ hC
    have t7 : τ 7 = σ 7 := hs 7 (by decide)
    have t8 : τ 8 = σ 8 := hs 8 (by decide)
    have t0 : τ 0 = σ 0 := hs 0 (by decide)
    have t20 : τ 20 = σ 20 := hs 20 (by decide)
    refine ⟨InRs (by omega) (by omega), by rw [t0, h25]; exact InRs (by omega) (by omega), fun e => by rw [t0, h25] at e; omega, fun _ => ⟨by rw [t0, h25]; omega, ?_⟩⟩
    rintro _ rfl
    have ex : τ 7 ((τ 0 25 - 1) - (p : Int)) = g (al ^ (n - 1 - p)) := by
      rw [t0, h25, t7, ← hT.1 (n - 1 - p) (by omega)]; congr 1; omega
    rw [ex]
    refine zfix_count v (fun j s => s = ((v : Int), (m : Int), (p : Int), g (al ^ (n - 1 - p)), g (pev (fun i => ptop a v (v - j + i)) (j + 1) (al ^ (n - 1 - p))), (v : Int) - 1 - j, τ)) ?_ ?_ ?_
    · rintro D j _ hj rfl hD
      refine ⟨InRs (by omega) (by omega), fun e => by omega, fun _ => ?_⟩
      refine lm_product hG (by rw [t7, t8]; exact hT) _ _ ⟨⟨by omega, by omega⟩, ?_⟩
      rintro _ rfl
      have e1 : (v : Int) - 1 - (j : Int) = ((v - 1 - j : Nat) : Int) := by omega
      have e2 : zxor (g (pev (fun i => ptop a v (v - j + i)) (j + 1) (al ^ (n - 1 - p)) * al ^ (n - 1 - p))) (τ 20 ((v : Int) - 1 - (j : Int))) = g (pev (fun i => ptop a v (v - (j + 1) + i)) (j + 1 + 1) (al ^ (n - 1 - p))) := by
        rw [t20, e1, ha (v - 1 - j) (by omega), hG.x, pev_cons _ (j + 1)]
        have e3 : (fun i => ptop a v (v - (j + 1) + (i + 1))) = (fun i => ptop a v (v - j + i)) := by
          funext i; congr 1; omega
        have e4 : ptop a v (v - (j + 1) + 0) = a (v - 1 - j) := by
          unfold ptop; rw [if_neg (by omega)]; congr 1; omega
        rw [e3, e4]; congr 1; grind
      rw [e2]
      apply hD
      have e5 : (v : Int) - 1 - (j : Int) + -1 = (v : Int) - 1 - ((j + 1 : Nat) : Int) := by omega
      rw [e5]
    · rintro D _ rfl
      have e0 : (fun i => ptop a v (v - v + i)) = ptop a v := by funext i; congr 1; omega
      rw [e0]
      refine ⟨InRs (by omega) (by omega), fun _ => ⟨hG.inr _, fun e => ?_, fun e => ⟨InRs (by omega) (by omega), InRs (by omega) (by omega), fun e2 => ?_, fun e2 => ⟨by omega, ?_⟩⟩⟩, fun e => by omega⟩
      · refine hC _ ⟨m, q, τ, rfl, hs, hm, hq, fun l hl => by have := hqp l hl; omega, hqv, fun pos h1 h2 h3 => ?_⟩
        obtain ⟨c1, c2⟩ := hc pos h1 h2 h3
        refine ⟨c1, fun l hl hlv => ?_⟩
        have := c2 l hl hlv
        rcases Nat.lt_or_ge p (pos l) with e3 | e3
        · omega
        · exfalso
          exact e ((hG.e0 _).mpr ((h3 p hp).mpr ⟨l, hlv, by omega⟩))
      · refine hC _ ⟨m, q, τ, rfl, hs, hm, hq, fun l hl => by have := hqp l hl; omega, hqv, fun pos h1 h2 h3 => ?_⟩
        obtain ⟨c1, c2⟩ := hc pos h1 h2 h3
        exact ⟨c1, fun l hl hlv => by omega⟩
      · rintro _ rfl
        refine hC _ ⟨m + 1, fun l => if l = m then p else q l, _, rfl, hs.st (by decide) _ _, by omega, fun l l2 h1 h2 => ?_, fun l hl => ?_, fun l hl => ?_, fun pos h1 h2 h3 => ?_⟩
        · dsimp only
          rw [if_neg (by omega)]
          by_cases e3 : l2 = m
          · rw [if_pos e3]; exact hqp l (by omega)
          · rw [if_neg e3]; exact hq l l2 h1 (by omega)
        · dsimp only
          by_cases e3 : l = m
          · rw [if_pos e3]; omega
          · rw [if_neg e3]; have := hqp l (by omega); omega
        · rw [zst_at]; dsimp only
          by_cases e3 : l = m
          · rw [if_pos (by omega), if_pos e3]
          · rw [if_neg (by omega), if_neg e3]; exact hqv l (by omega)
        · obtain ⟨c1, c2⟩ := hc pos h1 h2 h3
          obtain ⟨l0, hl0, e3⟩ := (h3 p hp).mp ((hG.e0 _).mp e)
          have hl0m : l0 = m := by
            rcases Nat.lt_trichotomy l0 m with e4 | e4 | e4
            · have := c1 l0 e4; have := hqp l0 e4; omega
            · exact e4
            · have := h1 m l0 e4 hl0; have := c2 m (Nat.le_refl _) (by omega); omega
          subst hl0m
          refine ⟨fun l hl => ?_, fun l hl hlv => ?_⟩
          · dsimp only
            by_cases e4 : l = l0
            · rw [if_pos e4, e4, e3]
            · rw [if_neg e4]; exact c1 l (by omega)
          · have := h1 l0 l (by omega) hlv; omega
    · have e0 : pev (fun i => ptop a v (v - 0 + i)) (0 + 1) (al ^ (n - 1 - p)) = 1 := by
        unfold pev; rw [gsum_succ, gsum_zero, gpow_zero]; unfold ptop; dsimp only; rw [if_pos (by omega)]; grind
      rw [e0, hG.o]; rw [show (v : Int) - 1 - ((0 : Nat) : Int) = (v : Int) - 1 from by omega]
  · rintro C _ ⟨m, q, τ, rfl, hs, hm, hq, hqp, hqv, hc⟩
    have t0 : τ 0 = σ 0 := hs 0 (by decide)
    have hfin : ∀ pos, incr v pos → (∀ l, l < v → pos l < n) → (∀ p, p < n → (pev (ptop a v) (v + 1) (al ^ (n - 1 - p)) = 0 ↔ ∃ l, l < v ∧ pos l = p)) → m = v ∧ ∀ l : Nat, l < v → τ 19 l = pos l := fun pos h1 h2 h3 => by
      obtain ⟨c1, c2⟩ := hc pos h1 h2 h3
      have e : m = v := by
        rcases Nat.lt_or_ge m v with e2 | e2
        · have := c2 m (Nat.le_refl _) e2; have := h2 m e2; omega
        · omega
      subst e
      exact ⟨rfl, fun l hl => by rw [hqv l hl, c1 l hl]⟩
    refine ⟨InRs (by omega) (by omega), by rw [t0, h25]; exact InRs (by omega) (by omega), fun _ => ⟨InRs (by omega) (by omega), InRs (by omega) (by omega), fun e => ?_, fun e => ?_⟩, fun e => by rw [t0, h25] at e; omega⟩
    · exact h 0 τ hs (.inl rfl) (fun q => absurd q (by decide)) (fun pos h1 h2 h3 => by have := (hfin pos h1 h2 h3).1; omega)
    · have e : m = v := by omega
      subst e
      exact h 1 τ hs (.inr rfl) (fun _ => ⟨q, hq, hqp, hqv⟩) (fun pos h1 h2 h3 => ⟨rfl, (hfin pos h1 h2 h3).2⟩)
