/-! tables; checks *(both)* -/
def zRows (s : Nat) : Nat := [10, 12, 14, 16, 18, 20, 22, 24, 26, 32, 36, 40, 44, 48, 52, 64, 72, 80, 88, 96, 104, 120, 132, 144, 8, 8, 12, 12, 16, 16].getD s 0
def zCols (s : Nat) : Nat := [10, 12, 14, 16, 18, 20, 22, 24, 26, 32, 36, 40, 44, 48, 52, 64, 72, 80, 88, 96, 104, 120, 132, 144, 18, 32, 26, 36, 36, 48].getD s 0
def zChk (s : Nat) : Nat := [5, 7, 10, 12, 14, 18, 20, 24, 28, 36, 42, 48, 56, 68, 84, 112, 144, 192, 224, 272, 336, 408, 496, 620, 7, 11, 14, 18, 24, 28].getD s 0
def zBlk (s : Nat) : Nat := [1, 1, 1, 1, 1, 1, 1, 1, 1, 1, 1, 1, 1, 1, 2, 2, 4, 4, 4, 4, 6, 6, 8, 10, 1, 1, 1, 1, 1, 1].getD s 0
def zBelow (s : Nat) : Nat := [1, 1, 1, 1, 1, 1, 1, 1, 1, 2, 2, 2, 2, 2, 2, 4, 4, 4, 4, 4, 4, 6, 6, 6, 1, 1, 1, 1, 1, 1].getD s 0
def zBeside (s : Nat) : Nat := [1, 1, 1, 1, 1, 1, 1, 1, 1, 2, 2, 2, 2, 2, 2, 4, 4, 4, 4, 4, 4, 6, 6, 6, 1, 2, 1, 2, 2, 2].getD s 0
def zPR (s : Nat) : Nat := zRows s - 2 * zBelow s
def zPC (s : Nat) : Nat := zCols s - 2 * zBeside s
def zAll (s : Nat) : Nat := zPR s * zPC s / 8
def zData (s : Nat) : Nat := zAll s - zChk s
def zK (s : Nat) : Nat := zChk s / zBlk s
theorem ztab : ∀ s : Nat, s < 30 → (2 * zBelow s < zRows s ∧ 2 * zBeside s < zCols s ∧ zRows s ≤ 144 ∧ zCols s ≤ 144 ∧ zAll s ≤ 2178 ∧ zChk s < zAll s) ∧ (zBlk s = 1 ∨ zBlk s = 2 ∨ zBlk s = 4 ∨ zBlk s = 6 ∨ zBlk s = 8 ∨ zBlk s = 10) ∧ (zAll s = zData s + zK s * zBlk s ∧ 0 < zK s ∧ zK s ≤ 68 ∧ zAll s ≤ 255 * zBlk s ∧ zBlk s ≤ zData s) := by decide +kernel
def TabM (σ : ZS) : Prop := ∀ s : Nat, s < 30 → σ 1 s = zRows s ∧ σ 2 s = zCols s ∧ σ 3 s = zChk s ∧ σ 4 s = zBlk s ∧ σ 5 s = zBelow s ∧ σ 6 s = zBeside s
theorem TabM.same {Q : List Nat} {σ τ : ZS} (h : TabM σ) (hs : zsame Q σ τ) (h1 : ∀ q, 1 ≤ q → q ≤ 6 → q ∉ Q) : TabM τ := fun s hss => by
  rw [hs 1 (h1 1 (by omega) (by omega)), hs 2 (h1 2 (by omega) (by omega)), hs 3 (h1 3 (by omega) (by omega)), hs 4 (h1 4 (by omega) (by omega)), hs 5 (h1 5 (by omega) (by omega)), hs 6 (h1 6 (by omega) (by omega))]
  exact h s hss
theorem lm_planeRows {σ : ZS} {post : Int → ZS → Prop} (hT : TabM σ) {s : Nat} (hs : s < 30) (h : post (zPR s) σ) : wm_planeRows s σ post := by
  refine ⟨by omega, ?_⟩
  have t := (ztab s hs).1
  obtain ⟨a1, a2, a3, a4, a5, a6⟩ := hT s hs
  rw [a1, a5]
  have : (zRows s : Int) - 2 * (zBelow s : Int) = (zPR s : Int) := by unfold zPR; omega
  rw [this]; exact h
theorem lm_planeColumns {σ : ZS} {post : Int → ZS → Prop} (hT : TabM σ) {s : Nat} (hs : s < 30) (h : post (zPC s) σ) : wm_planeColumns s σ post := by
  refine ⟨by omega, ?_⟩
  have t := (ztab s hs).1
  obtain ⟨a1, a2, a3, a4, a5, a6⟩ := hT s hs
  rw [a2, a6]
  have : (zCols s : Int) - 2 * (zBeside s : Int) = (zPC s : Int) := by unfold zPC; omega
  rw [this]; exact h
theorem lm_allOf {σ : ZS} {post : Int → ZS → Prop} (hT : TabM σ) {s : Nat} (hs : s < 30) (h : post (zAll s) σ) : wm_allOf s σ post := by
  refine lm_planeRows hT hs (lm_planeColumns hT hs ?_)
  have t := (ztab s hs).1
  have e : (zPR s : Int) * (zPC s : Int) = ((zPR s * zPC s : Nat) : Int) := by push_cast; rfl
  have hm : zPR s * zPC s ≤ 144 * 144 := Nat.mul_le_mul (by unfold zPR; omega) (by unfold zPC; omega)
  rw [e]
  refine ⟨InRs (by omega) (by omega), by omega, ?_⟩
  have e2 : ((zPR s * zPC s : Nat) : Int) / 8 = (zAll s : Int) := by unfold zAll; omega
  rw [e2]; exact h
theorem lm_dataOf {σ : ZS} {post : Int → ZS → Prop} (hT : TabM σ) {s : Nat} (hs : s < 30) (h : post (zData s) σ) : wm_dataOf s σ post := by
  refine lm_allOf hT hs ⟨by omega, ?_⟩
  have t := (ztab s hs).1
  obtain ⟨a1, a2, a3, a4, a5, a6⟩ := hT s hs
  rw [a3]
  have : (zAll s : Int) - (zChk s : Int) = (zData s : Int) := by unfold zData; omega
  rw [this]; exact h
/-- (x - a) (x - a^2) .. -/
def genP {F : Type} [Lean.Grind.Field F] (al : F) : Nat → Nat → F
  | 0 => e0
  | r + 1 => fun i => genP al r i + (if i = 0 then 0 else genP al r (i - 1) * al ^ (r + 1))
theorem genP_top {F : Type} [Lean.Grind.Field F] (al : F) : ∀ r i, r < i → genP al r i = 0
  | 0, i, h => if_neg (by omega)
  | r + 1, i, h => by
    show genP al r i + _ = 0
    rw [if_neg (by omega), genP_top al r i (by omega), genP_top al r (i - 1) (by omega)]; grind
def rst {F : Type} [Lean.Grind.Field F] (k : Nat) (G R : Nat → F) (d : F) : Nat → F := fun j => (if j + 1 < k then R (j + 1) else 0) + (d + R 0) * G (j + 1)
def rfold {F : Type} [Lean.Grind.Field F] (k : Nat) (G w : Nat → F) : Nat → Nat → F
  | 0 => fun _ => 0
  | m + 1 => rst k G (rfold k G w m) (w m)
/-- a block with its checks -/
def blkc {F : Type} [Lean.Grind.Field F] (al : F) (k nb : Nat) (w : Nat → F) : Nat → F := fun m => if m < nb then w m else rfold k (genP al k) w nb (m - nb)
theorem rfold_congr {F : Type} [Lean.Grind.Field F] (k : Nat) (G : Nat → F) {w u : Nat → F} : ∀ {m}, (∀ i, i < m → w i = u i) → rfold k G w m = rfold k G u m
  | 0, _ => rfl
  | m + 1, h => by
    show rst k G (rfold k G w m) (w m) = rst k G (rfold k G u m) (u m)
    rw [rfold_congr k G (fun i hi => h i (by omega)), h m (by omega)]
theorem lm_makeDivisor {F : Type} [Lean.Grind.Field F] {g : F → Int} {al : F} (hG : GOK g al) {σ : ZS} {post : ZS → Prop} (hT : GFT g al (σ 7) (σ 8)) {k : Nat} (hk : k ≤ 68) (h : ∀ τ, zsame [14] σ τ → (∀ i : Nat, i ≤ k → τ 14 i = g (genP al k i)) → post τ) : wm_makeDivisor k σ post := by
  refine zfix_count (k + 1) (fun i a => ∃ τ : ZS, a = ((k : Int), (i : Int), τ) ∧ zsame [14] σ τ ∧ ∀ j : Nat, j < i → τ 14 j = g (e0 j)) ?_ ?_ ⟨σ, rfl, zsame.refl _ _, fun j hj => by omega⟩
  · rintro C i _ hi ⟨τ, rfl, g1, g2⟩ hC
    have e1 : ∀ x : Int, x = g (e0 i) → C ((k : Int), (i : Int) + 1, zst τ 14 (i : Int) x) := fun x hx => by
      refine hC _ ⟨_, rfl, g1.st (by decide) _ _, fun j hj => ?_⟩
      rw [zst_at]
      by_cases e : j = i
      · rw [if_pos (by omega), e]; exact hx
      · rw [if_neg (by omega)]; exact g2 j (by omega)
    refine ⟨InRs (by omega) (by omega), InRs (by omega) (by omega), fun e => by omega, fun _ => ⟨fun e => ⟨by omega, ?_⟩, fun e => ⟨by omega, ?_⟩⟩⟩
    · rintro _ rfl; exact e1 0 (by unfold e0; rw [if_neg (by omega), hG.z])
    · rintro _ rfl; exact e1 1 (by unfold e0; rw [if_pos (by omega), hG.o])
  · rintro C _ ⟨τ, rfl, g1, g2⟩
    refine ⟨InRs (by omega) (by omega), InRs (by omega) (by omega), fun _ => ?_, fun e => by omega⟩
    refine zfix_count k (fun r a => ∃ υ : ZS, a = ((k : Int), (r : Int) + 1, υ) ∧ zsame [14] σ υ ∧ ∀ j : Nat, j ≤ k → υ 14 j = g (genP al r j)) ?_ ?_ ⟨τ, rfl, g1, fun j hj => g2 j (by omega)⟩
    · rintro D r _ hr ⟨υ, rfl, k1, k2⟩ hD
      refine ⟨InRs (by omega) (by omega), InRs (by omega) (by omega), fun e => by omega, fun _ => ?_⟩
      refine zfix_count (r + 1) (fun t a => ∃ ω : ZS, a = ((k : Int), (r : Int) + 1, (r : Int) + 1 - (t : Int), ω) ∧ zsame [14] σ ω ∧ ∀ j : Nat, j ≤ k → ω 14 j = g (if r + 1 - t < j then genP al (r + 1) j else genP al r j)) ?_ ?_ ⟨υ, by rw [show (r : Int) + 1 - ((0 : Nat) : Int) = (r : Int) + 1 from by omega], k1, fun j hj => by
        rw [k2 j hj]
        by_cases e : r + 1 - 0 < j
        · rw [if_pos e, genP_top al r j (by omega), genP_top al (r + 1) j (by omega)]
        · rw [if_neg e]⟩
      · rintro E t _ ht ⟨ω, rfl, z1, z2⟩ hE
        have e1 : (r : Int) + 1 - (t : Int) = ((r + 1 - t : Nat) : Int) := by omega
        have e2 : (r : Int) + 1 - (t : Int) - 1 = ((r - t : Nat) : Int) := by omega
        refine ⟨InRs (by omega) (by omega), fun e => by omega, fun _ => ⟨by omega, by omega, by omega, ?_⟩⟩
        have e3 : ω 14 ((r : Int) + 1 - (t : Int) - 1) = g (genP al r (r - t)) := by
          rw [e2, z2 _ (by omega), if_neg (by omega)]
        have e4 : ω 7 ((r : Int) + 1) = g (al ^ (r + 1)) := by
          rw [z1 7 (by decide)]; exact hT.1 (r + 1) (by omega)
        rw [e3, e4]
        refine lm_product hG (by rw [z1 7 (by decide), z1 8 (by decide)]; exact hT) _ _ ?_
        rintro _ rfl
        refine hE _ ⟨_, by rw [show (r : Int) + 1 - ((t + 1 : Nat) : Int) = (r : Int) + 1 - (t : Int) + -1 from by omega], z1.st (by decide) _ _, fun j hj => ?_⟩
        rw [zst_at, e1]
        by_cases e : j = r + 1 - t
        · rw [if_pos (by omega), z2 _ (by omega), if_neg (by omega), hG.x, if_pos (by omega), e]
          congr 1
          show _ = genP al r (r + 1 - t) + (if r + 1 - t = 0 then 0 else genP al r (r + 1 - t - 1) * al ^ (r + 1))
          rw [if_neg (by omega)]
          congr 3; omega
        · rw [if_neg (by omega), z2 j hj]
          by_cases e5 : r + 1 - t < j
          · rw [if_pos e5, if_pos (by omega)]
          · rw [if_neg e5, if_neg (by omega)]
      · rintro E _ ⟨ω, rfl, z1, z2⟩
        refine ⟨InRs (by omega) (by omega), fun _ => ?_, fun e => by omega⟩
        refine hD _ ⟨ω, rfl, z1, fun j hj => ?_⟩
        rw [z2 j hj]
        by_cases e : j = 0
        · rw [if_neg (by omega), e]
          show _ = g (genP al r 0 + (if 0 = 0 then 0 else _))
          rw [if_pos rfl]; congr 1; grind
        · rw [if_pos (by omega)]
    · rintro D _ ⟨υ, rfl, k1, k2⟩
      exact ⟨InRs (by omega) (by omega), InRs (by omega) (by omega), fun _ => h υ k1 k2, fun e => by omega⟩
/-- a number more goes through the rest *(the plain form)* -/
theorem lm_check_127 {F : Type} [Lean.Grind.Field F] {g : F → Int} {al : F} (hG : GOK g al) {σ τ : ZS} {C23 : Int × Int × Int × Int × ZS → Prop} {C102 : Int × Int × Int × Int × Int × Int × ZS → Prop} {post : ZS → Prop} (hT : GFT g al (σ 7) (σ 8)) {k : Nat} (hk : k ≤ 68) (v2 v3 v4 v5 v7 : Int) (G R : Nat → F) (d : F) (hs : zsame [15] σ τ) (h14 : ∀ i : Nat, i ≤ k → τ 14 i = g (G i)) (h15 : ∀ i : Nat, i < k → τ 15 i = g (R i))
    (h : ∀ υ, zsame [15] σ υ → (∀ i : Nat, i < k → υ 15 i = g (rst k G R d i)) → C102 (v2, v3, v4, v5, (k : Int), v7 + v4, υ)) : ∃ N : Nat, zfix (wbm_check_127 C23 C102 post) N (v2, v3, v4, v5, (k : Int), v7, g (d + R 0), 0, τ) := by
  refine zfix_count k (fun j a => ∃ υ : ZS, a = (v2, v3, v4, v5, (k : Int), v7, g (d + R 0), (j : Int), υ) ∧ zsame [15] σ υ ∧ (∀ i : Nat, i ≤ k → υ 14 i = g (G i)) ∧ ∀ i : Nat, i < k → υ 15 i = g (if i < j then rst k G R d i else R i)) ?_ ?_ ⟨τ, rfl, hs, h14, h15⟩
  · rintro C j _ hj ⟨υ, rfl, g1, g2, g3⟩ hC
    have fin : ∀ t0 : Int, t0 = g (if j + 1 < k then R (j + 1) else 0) → wm_check_162 C23 C102 C post v2 v3 v4 v5 (k : Int) v7 (g (d + R 0)) (j : Int) t0 (j : Int) υ := fun t0 ht0 => by
      refine ⟨by omega, ?_⟩
      have e1 : υ 14 ((j : Int) + 1) = g (G (j + 1)) := g2 (j + 1) (by omega)
      rw [e1]
      refine lm_product hG (by rw [g1 7 (by decide), g1 8 (by decide)]; exact hT) _ _ ⟨by omega, ?_⟩
      rintro _ rfl
      refine hC _ ⟨_, rfl, g1.st (by decide) _ _, fun i hi => by rw [zst_cell (by decide)]; exact g2 i hi, fun i hi => ?_⟩
      rw [zst_at]
      by_cases e : i = j
      · have e6 : (if i < j + 1 then rst k G R d i else R i) = rst k G R d j := by rw [if_pos (by omega), e]
        rw [if_pos (by omega), e6, ht0, hG.x]; rfl
      · rw [if_neg (by omega), g3 i hi]
        by_cases e2 : i < j
        · rw [if_pos e2, if_pos (by omega)]
        · rw [if_neg e2, if_neg (by omega)]
    refine ⟨InRs (by omega) (by omega), InRs (by omega) (by omega), fun e => by omega, fun _ => ⟨InRs (by omega) (by omega), fun e => fin 0 (by rw [if_neg (by omega), hG.z]), fun e => ⟨by omega, fin _ ?_⟩⟩⟩
    rw [if_pos (by omega)]
    have := g3 (j + 1) (by omega)
    rw [if_neg (by omega)] at this
    exact this
  · rintro C _ ⟨υ, rfl, g1, g2, g3⟩
    refine ⟨InRs (by omega) (by omega), InRs (by omega) (by omega), fun _ => ?_, fun e => by omega⟩
    rintro _ rfl
    exact h υ g1 (fun i hi => by rw [g3 i hi, if_pos hi])
/-- how many below n are b and steps more -/
def cn (st b n : Nat) : Nat := (n + st - 1 - b) / st
theorem cn_succ {st b n : Nat} (hst : st = 1 ∨ st = 2 ∨ st = 4 ∨ st = 6 ∨ st = 8 ∨ st = 10) (hb : b < st) : cn st b (n + 1) = cn st b n + (if n % st = b then 1 else 0) := by
  unfold cn
  rcases hst with rfl | rfl | rfl | rfl | rfl | rfl <;> (split <;> omega)
theorem cn_at {st b n : Nat} (hst : st = 1 ∨ st = 2 ∨ st = 4 ∨ st = 6 ∨ st = 8 ∨ st = 10) (hb : b < st) (h : n % st = b) : cn st b n = n / st ∧ n = b + cn st b n * st := by
  unfold cn
  rcases hst with rfl | rfl | rfl | rfl | rfl | rfl <;> omega
theorem cn_lt {st b n m : Nat} (hst : st = 1 ∨ st = 2 ∨ st = 4 ∨ st = 6 ∨ st = 8 ∨ st = 10) (hb : b < st) : m < cn st b n ↔ b + m * st < n := by
  unfold cn
  rcases hst with rfl | rfl | rfl | rfl | rfl | rfl <;> omega
theorem cn_add {st b n k : Nat} (hst : st = 1 ∨ st = 2 ∨ st = 4 ∨ st = 6 ∨ st = 8 ∨ st = 10) (hb : b < st) : cn st b (n + k * st) = cn st b n + k := by
  unfold cn
  rcases hst with rfl | rfl | rfl | rfl | rfl | rfl <;> omega
theorem cn_dm {st b m : Nat} (hst : st = 1 ∨ st = 2 ∨ st = 4 ∨ st = 6 ∨ st = 8 ∨ st = 10) (hb : b < st) : (b + m * st) % st = b ∧ (b + m * st) / st = m := by
  rcases hst with rfl | rfl | rfl | rfl | rfl | rfl <;> omega
theorem cn_dm2 {st i : Nat} (hst : st = 1 ∨ st = 2 ∨ st = 4 ∨ st = 6 ∨ st = 8 ∨ st = 10) : i % st < st ∧ i = i % st + i / st * st := by
  rcases hst with rfl | rfl | rfl | rfl | rfl | rfl <;> omega
/-- all words with the checks of the first B blocks -/
def chkw {F : Type} [Lean.Grind.Field F] (al : F) (st k data : Nat) (W : Nat → F) : Nat → F := fun i => blkc al k (cn st (i % st) data) (fun m => W (i % st + m * st)) (i / st)
