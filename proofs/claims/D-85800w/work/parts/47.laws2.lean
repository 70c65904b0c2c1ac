/-! equations solved *(the plain form)* -/
def mix (v r c : Nat) : Int := ((v : Int) + 1) * (r : Int) + (c : Int)
theorem mix_nat (v r c : Nat) : mix v r c = (((v + 1) * r + c : Nat) : Int) := by unfold mix; push_cast; rfl
theorem mix_in {v r c : Nat} (hv : v ≤ 34) (hr : r < v) (hc : c ≤ v) : 0 ≤ mix v r c ∧ mix v r c < 1260 := by
  rw [mix_nat]
  have h1 : (v + 1) * r ≤ 35 * 33 := Nat.mul_le_mul (by omega) (by omega)
  omega
theorem mix_inj {v r c r' c' : Nat} (hc : c ≤ v) (hc' : c' ≤ v) (h : mix v r c = mix v r' c') : r = r' ∧ c = c' := by
  rw [mix_nat, mix_nat] at h
  have h : (v + 1) * r + c = (v + 1) * r' + c' := by exact_mod_cast h
  have h1 : ((v + 1) * r + c) / (v + 1) = r := by rw [Nat.mul_add_div (by omega), Nat.div_eq_of_lt (by omega)]; rfl
  have h2 : ((v + 1) * r' + c') / (v + 1) = r' := by rw [Nat.mul_add_div (by omega), Nat.div_eq_of_lt (by omega)]; rfl
  rw [h, h2] at h1
  subst h1
  exact ⟨rfl, by omega⟩
def mat {F : Type} [Lean.Grind.Field F] (g : F → Int) (σ : ZS) (v : Nat) (M : Nat → Nat → F) : Prop := ∀ r c : Nat, r < v → c ≤ v → σ 18 (mix v r c) = g (M r c)
theorem mat.st {F : Type} [Lean.Grind.Field F] {g : F → Int} {σ : ZS} {v : Nat} {M N : Nat → Nat → F} (h : mat g σ v M) {r0 c0 : Nat} (x : F) (hc : c0 ≤ v) (hN : ∀ r c, r < v → c ≤ v → N r c = if r = r0 ∧ c = c0 then x else M r c) : mat g (zst σ 18 (mix v r0 c0) (g x)) v N := fun r c hr hcc => by
  rw [zst_at, hN r c hr hcc]
  by_cases e : r = r0 ∧ c = c0
  · rw [if_pos e, e.1, e.2, if_pos rfl]
  · rw [if_neg e, if_neg (fun q => e (mix_inj hcc hc q))]; exact h r c hr hcc
theorem mat.congr {F : Type} [Lean.Grind.Field F] {g : F → Int} {σ : ZS} {v : Nat} {M N : Nat → Nat → F} (h : mat g σ v M) (hN : ∀ r c, r < v → c ≤ v → N r c = M r c) : mat g σ v N := fun r c hr hc => by rw [hN r c hr hc]; exact h r c hr hc
def msw {F : Type} [Lean.Grind.Field F] (M : Nat → Nat → F) (i p j : Nat) : Nat → Nat → F := fun r c => if c < j then (if r = i then M p c else if r = p then M i c else M r c) else M r c
def msc {F : Type} [Lean.Grind.Field F] (M : Nat → Nat → F) (i : Nat) (b : F) (j : Nat) : Nat → Nat → F := fun r c => if r = i ∧ i ≤ c ∧ c < j then M r c / b else M r c
def mel {F : Type} [Lean.Grind.Field F] (M : Nat → Nat → F) (i r0 : Nat) (t : F) (j : Nat) : Nat → Nat → F := fun r c => if r = r0 ∧ i ≤ c ∧ c < j then M r c + t * M i c else M r c
def mer {F : Type} [Lean.Grind.Field F] (M : Nat → Nat → F) (i R : Nat) : Nat → Nat → F := fun r c => if r < R ∧ r ≠ i ∧ i ≤ c then M r c + M r i * M i c else M r c
theorem mel0 {F : Type} [Lean.Grind.Field F] {t : F} (ht : t = 0) (M : Nat → Nat → F) (i r j r' c : Nat) : mel M i r t j r' c = M r' c := by
  unfold mel
  split
  · rw [ht]; grind
  · rfl
/-- a row less times of another -/
theorem lm_solve_198 {F : Type} [Lean.Grind.Field F] {g : F → Int} {al : F} (hG : GOK g al) {σ τ : ZS} {C6 : Int × Int × Int × ZS → Prop} {C171 : Int × Int × Int × Int × ZS → Prop} {post : Int → ZS → Prop} (hT : GFT g al (σ 7) (σ 8)) {v i r : Nat} (hv : v ≤ 34) (hi : i < v) (hr : r < v) (hri : r ≠ i) {M : Nat → Nat → F} (t : F) (hs : zsame [18] σ τ) (hM : mat g τ v M)
    (h : ∀ υ, zsame [18] σ υ → mat g υ v (mel M i r t (v + 1)) → C171 ((v : Int), (v : Int) + 1, (i : Int), (r : Int) + 1, υ)) : wm_solve_198 C6 C171 post (v : Int) ((v : Int) + 1) (i : Int) (r : Int) (g t) τ := by
  refine zfix_count (v + 1 - i) (fun j a => ∃ υ, a = ((v : Int), (v : Int) + 1, (i : Int), (r : Int), g t, ((i + j : Nat) : Int), υ) ∧ zsame [18] σ υ ∧ mat g υ v (mel M i r t (i + j))) ?_ ?_ ⟨τ, rfl, hs, hM.congr (fun r' c _ _ => if_neg (by omega))⟩
  · rintro D j _ hj ⟨υ, rfl, h1, h2⟩ hD
    refine ⟨InRs (by omega) (by omega), InRs (by omega) (by omega), fun q => by omega, fun _ => ⟨hG.inr t, fun q => ?_, fun _ => ⟨mix_in hv hr (by omega), mix_in hv hi (by omega), ?_⟩⟩⟩
    · have ht : t = 0 := (hG.e0 t).mp (by have := hG.rg t; omega)
      exact h υ h1 (h2.congr (fun r' c _ _ => by
        have e1 : mel M i r t (v + 1) r' c = M r' c := mel0 ht _ _ _ _ _ _
        have e2 : mel M i r t (i + j) r' c = M r' c := mel0 ht _ _ _ _ _ _
        rw [e1, e2]))
    · have e1 : υ 18 (mix v i (i + j)) = g (M i (i + j)) := by rw [h2 i (i + j) hi (by omega)]; unfold mel; rw [if_neg (by omega)]
      have e2 : υ 18 (mix v r (i + j)) = g (M r (i + j)) := by rw [h2 r (i + j) hr (by omega)]; unfold mel; rw [if_neg (by omega)]
      have t7 : υ 7 = σ 7 := h1 7 (by decide)
      have t8 : υ 8 = σ 8 := h1 8 (by decide)
      show wm_product (g t) (υ 18 (mix v i (i + j))) υ _
      rw [e1]
      refine lm_product hG (by rw [t7, t8]; exact hT) _ _ ?_
      rintro _ rfl
      have e3 : zxor (υ 18 (((v : Int) + 1) * (r : Int) + ((i + j : Nat) : Int))) (g (t * M i (i + j))) = g (M r (i + j) + t * M i (i + j)) := by
        have : υ 18 (((v : Int) + 1) * (r : Int) + ((i + j : Nat) : Int)) = g (M r (i + j)) := e2
        rw [this, hG.x]
      rw [e3]
      refine hD _ ⟨_, rfl, h1.st (by decide) _ _, h2.st _ (by omega) (fun r' c _ _ => ?_)⟩
      unfold mel
      by_cases e : r' = r ∧ c = i + j
      · rw [if_pos e, if_pos (by omega), e.1, e.2]
      · rw [if_neg e]
        by_cases e5 : r' = r ∧ i ≤ c ∧ c < i + j
        · rw [if_pos e5, if_pos (by omega)]
        · rw [if_neg e5, if_neg (by omega)]
  · rintro D _ ⟨υ, rfl, h1, h2⟩
    refine ⟨InRs (by omega) (by omega), InRs (by omega) (by omega), fun _ => ?_, fun q => by omega⟩
    have e : i + (v + 1 - i) = v + 1 := by omega
    rw [e] at h2
    exact h υ h1 h2
/-- all other rows -/
theorem lm_solve_171 {F : Type} [Lean.Grind.Field F] {g : F → Int} {al : F} (hG : GOK g al) {σ τ : ZS} {C6 : Int × Int × Int × ZS → Prop} {post : Int → ZS → Prop} (hT : GFT g al (σ 7) (σ 8)) {v i : Nat} (hv : v ≤ 34) (hi : i < v) {M : Nat → Nat → F} (hs : zsame [18] σ τ) (hM : mat g τ v M)
    (h : ∀ υ, zsame [18] σ υ → mat g υ v (mer M i v) → C6 ((v : Int), (v : Int) + 1, (i : Int) + 1, υ)) : ∃ N : Nat, zfix (wbm_solve_171 C6 post) N ((v : Int), (v : Int) + 1, (i : Int), 0, τ) := by
  refine zfix_count v (fun r a => ∃ υ, a = ((v : Int), (v : Int) + 1, (i : Int), (r : Int), υ) ∧ zsame [18] σ υ ∧ mat g υ v (mer M i r)) ?_ ?_ ⟨τ, rfl, hs, hM.congr (fun r' c _ _ => if_neg (by omega))⟩
  · rintro D r _ hr ⟨υ, rfl, h1, h2⟩ hD
    refine ⟨InRs (by omega) (by omega), InRs (by omega) (by omega), fun q => by omega, fun _ => ⟨InRs (by omega) (by omega), fun q => ⟨mix_in hv hr (by omega), ?_⟩, fun q => ?_⟩⟩
    · have e1 : υ 18 (mix v r i) = g (M r i) := by rw [h2 r i hr (by omega)]; unfold mer; rw [if_neg (by omega)]
      show wm_solve_198 C6 D post (v : Int) ((v : Int) + 1) (i : Int) (r : Int) (υ 18 (mix v r i)) υ
      rw [e1]
      refine lm_solve_198 hG hT hv hi hr (by omega) _ h1 h2 (fun υ' h3 h4 => hD _ ⟨υ', rfl, h3, h4.congr (fun r' c _ _ => ?_)⟩)
      unfold mel mer
      by_cases e : r' = r ∧ i ≤ c
      · rw [if_pos (by omega), if_pos (by omega), if_neg (by omega), if_neg (by omega), e.1]
      · by_cases e2 : r' < r ∧ r' ≠ i ∧ i ≤ c
        · rw [if_pos (by omega), if_neg (by omega), if_pos e2]
        · rw [if_neg (by omega), if_neg (by omega), if_neg e2]
    · have q : r = i := by omega
      subst q
      refine zfix_count 0 (fun _ a => a = ((v : Int), (v : Int) + 1, (r : Int), (r : Int), 0, (r : Int), υ)) (fun _ _ _ q => by omega) ?_ rfl
      rintro D2 _ rfl
      have hfin : D ((v : Int), (v : Int) + 1, (r : Int), (r : Int) + 1, υ) := hD _ ⟨υ, rfl, h1, h2.congr (fun r' c _ _ => by
        unfold mer
        by_cases e2 : r' < r ∧ r' ≠ r ∧ r ≤ c
        · rw [if_pos (by omega), if_pos e2]
        · rw [if_neg (by omega), if_neg e2])⟩
      exact ⟨InRs (by omega) (by omega), InRs (by omega) (by omega), fun _ => hfin, fun _ => ⟨InR0, fun _ => hfin, fun q => by omega⟩⟩
  · rintro D _ ⟨υ, rfl, h1, h2⟩
    exact ⟨InRs (by omega) (by omega), InRs (by omega) (by omega), fun _ => h υ h1 h2, fun q => by omega⟩
/-- the row divided by its head -/
theorem lm_solve_128 {F : Type} [Lean.Grind.Field F] {g : F → Int} {al : F} (hG : GOK g al) {σ τ : ZS} {C6 : Int × Int × Int × ZS → Prop} {post : Int → ZS → Prop} (hT : GFT g al (σ 7) (σ 8)) {v i : Nat} (hv : v ≤ 34) (hi : i < v) {M : Nat → Nat → F} {b : F} (hb : b ≠ 0) (hs : zsame [18] σ τ) (hM : mat g τ v M)
    (h : ∀ υ, zsame [18] σ υ → mat g υ v (mer (msc M i b (v + 1)) i v) → C6 ((v : Int), (v : Int) + 1, (i : Int) + 1, υ)) : ∃ N : Nat, zfix (wbm_solve_128 C6 post) N ((v : Int), (v : Int) + 1, (i : Int), g b, (i : Int), τ) := by
  refine zfix_count (v + 1 - i) (fun j a => ∃ υ, a = ((v : Int), (v : Int) + 1, (i : Int), g b, ((i + j : Nat) : Int), υ) ∧ zsame [18] σ υ ∧ mat g υ v (msc M i b (i + j))) ?_ ?_ ⟨τ, rfl, hs, hM.congr (fun r' c _ _ => if_neg (by omega))⟩
  · rintro D j _ hj ⟨υ, rfl, h1, h2⟩ hD
    refine ⟨InRs (by omega) (by omega), InRs (by omega) (by omega), fun q => by omega, fun _ => ⟨mix_in hv hi (by omega), ?_⟩⟩
    have e1 : υ 18 (mix v i (i + j)) = g (M i (i + j)) := by rw [h2 i (i + j) hi (by omega)]; unfold msc; rw [if_neg (by omega)]
    have t7 : υ 7 = σ 7 := h1 7 (by decide)
    have t8 : υ 8 = σ 8 := h1 8 (by decide)
    show wm_quotient (υ 18 (mix v i (i + j))) (g b) υ _
    rw [e1]
    refine lm_quotient hG (by rw [t7, t8]; exact hT) _ hb ?_
    rintro _ rfl
    refine hD _ ⟨_, rfl, h1.st (by decide) _ _, h2.st _ (by omega) (fun r' c _ _ => ?_)⟩
    unfold msc
    by_cases e : r' = i ∧ c = i + j
    · rw [if_pos e, if_pos (by omega), e.1, e.2]
    · rw [if_neg e]
      by_cases e5 : r' = i ∧ i ≤ c ∧ c < i + j
      · rw [if_pos e5, if_pos (by omega)]
      · rw [if_neg e5, if_neg (by omega)]
  · rintro D _ ⟨υ, rfl, h1, h2⟩
    have e : i + (v + 1 - i) = v + 1 := by omega
    rw [e] at h2
    exact ⟨InRs (by omega) (by omega), InRs (by omega) (by omega), fun _ => lm_solve_171 hG hT hv hi h1 h2 h, fun q => by omega⟩
/-- two rows changed about, and on -/
theorem lm_solve_51 {F : Type} [Lean.Grind.Field F] {g : F → Int} {al : F} (hG : GOK g al) {σ τ : ZS} {C6 : Int × Int × Int × ZS → Prop} {post : Int → ZS → Prop} (hT : GFT g al (σ 7) (σ 8)) {v i p : Nat} (hv : v ≤ 34) (hi : i < v) (hp : p < v) {M : Nat → Nat → F} (hb : M p i ≠ 0) (hs : zsame [18] σ τ) (hM : mat g τ v M)
    (h : ∀ υ, zsame [18] σ υ → mat g υ v (mer (msc (msw M i p (v + 1)) i (M p i) (v + 1)) i v) → C6 ((v : Int), (v : Int) + 1, (i : Int) + 1, υ)) : ∃ N : Nat, zfix (wbm_solve_51 C6 post) N ((v : Int), (v : Int) + 1, (i : Int), (p : Int), 0, τ) := by
  refine zfix_count (v + 1) (fun j a => ∃ υ, a = ((v : Int), (v : Int) + 1, (i : Int), (p : Int), (j : Int), υ) ∧ zsame [18] σ υ ∧ mat g υ v (msw M i p j)) ?_ ?_ ⟨τ, rfl, hs, hM.congr (fun r' c _ _ => if_neg (by omega))⟩
  · rintro D j _ hj ⟨υ, rfl, h1, h2⟩ hD
    refine ⟨InRs (by omega) (by omega), InRs (by omega) (by omega), fun q => by omega, fun _ => ⟨mix_in hv hp (by omega), ?_⟩⟩
    rintro _ rfl
    refine ⟨mix_in hv hi (by omega), ?_⟩
    rintro _ rfl _ rfl
    have e1 : υ 18 (mix v i j) = g (M i j) := by rw [h2 i j hi (by omega)]; unfold msw; rw [if_neg (by omega)]
    have e2 : υ 18 (mix v p j) = g (M p j) := by rw [h2 p j hp (by omega)]; unfold msw; rw [if_neg (by omega)]
    refine hD _ ⟨_, rfl, (h1.st (by decide) _ _).st (by decide) _ _, ?_⟩
    show mat g (zst (zst υ 18 (mix v p j) (υ 18 (mix v i j))) 18 (mix v i j) (υ 18 (mix v p j))) v _
    rw [e1, e2]
    refine (h2.st (N := fun r c => if r = p ∧ c = j then M i j else msw M i p j r c) _ (by omega) (fun r c _ _ => rfl)).st _ (by omega) (fun r c _ _ => ?_)
    unfold msw
    grind
  · rintro D _ ⟨υ, rfl, h1, h2⟩
    refine ⟨InRs (by omega) (by omega), InRs (by omega) (by omega), fun _ => ⟨mix_in hv hi (by omega), ?_⟩, fun q => by omega⟩
    rintro _ rfl
    have e1 : υ 18 (((v : Int) + 1) * (i : Int) + (i : Int)) = g (M p i) := by
      have := h2 i i hi (by omega)
      unfold msw at this
      rw [if_pos (by omega), if_pos rfl] at this
      exact this
    rw [e1]
    exact lm_solve_128 hG hT hv hi hb h1 h2 h
theorem lm_solve {F : Type} [Lean.Grind.Field F] {g : F → Int} {al : F} (hG : GOK g al) {σ : ZS} {post : Int → ZS → Prop} (hT : GFT g al (σ 7) (σ 8)) {v : Nat} (hv : v ≤ 34) {M0 : Nat → Nat → F} (hM : mat g σ v M0)
    (h1 : ∀ τ, zsame [18, 20] σ τ → ∀ a : Nat → F, (∀ i : Nat, i < v → τ 20 i = g (a i)) → (∀ r, r < v → gsum (fun j => M0 r j * a j) v = M0 r v) → (∀ x : Nat → F, (∀ r, r < v → gsum (fun j => M0 r j * x j) v = 0) → ∀ j, j < v → x j = 0) → post 1 τ)
    (h0 : ∀ τ, zsame [18, 20] σ τ → (∃ x : Nat → F, (∃ j, j < v ∧ x j ≠ 0) ∧ ∀ r, r < v → gsum (fun j => M0 r j * x j) v = 0) → post 0 τ) : wm_solve v σ post := by
  have hmono : ∀ τ, zsame [18] σ τ → zsame [18, 20] σ τ := fun τ h => h.mono (fun q hq => by simp at hq ⊢; exact .inl hq)
  refine zfix_count v (fun i a => ∃ τ M, a = ((v : Int), (v : Int) + 1, (i : Int), τ) ∧ zsame [18] σ τ ∧ mat g τ v M ∧ leqs M0 M v ∧ lunit M v i) ?_ ?_ ⟨σ, M0, rfl, zsame.refl _ _, hM, leqs_refl _ _, fun r c _ hc => by omega⟩
  · rintro C i _ hi ⟨τ, M, rfl, hs, hMt, hq, hu⟩ hC
    refine ⟨InRs (by omega) (by omega), InRs (by omega) (by omega), fun q => by omega, fun _ => ?_⟩
    refine zfix_count (v - i) (fun j a => a = ((v : Int), (v : Int) + 1, (i : Int), ((i + j : Nat) : Int), τ) ∧ ∀ r, i ≤ r → r < i + j → M r i = 0) ?_ ?_ ⟨rfl, fun r _ _ => by omega⟩
    · rintro D j _ hj ⟨rfl, hz⟩ hD
      refine ⟨InRs (by omega) (by omega), InRs (by omega) (by omega), fun q => by omega, fun _ => ⟨mix_in hv (by omega) (by omega), ?_⟩⟩
      have e1 : τ 18 (((v : Int) + 1) * ((i + j : Nat) : Int) + (i : Int)) = g (M (i + j) i) := hMt (i + j) i (by omega) (by omega)
      rw [e1]
      refine ⟨hG.inr _, fun q => ⟨InRs (by omega) (by omega), InRs (by omega) (by omega), fun _ => ?_, fun q => by omega⟩, fun q => ?_⟩
      · have hb : M (i + j) i ≠ 0 := fun e => q ((hG.e0 _).mpr e)
        refine lm_solve_51 hG hT hv hi (by omega) hb hs hMt (fun υ h3 h4 => hC _ ⟨υ, _, rfl, h3, h4, ?_, ?_⟩)
        · have q1 : leqs M (msw M i (i + j) (v + 1)) v := leqs_swap hi (p := i + j) (by omega) (fun r c _ hc => by unfold msw; rw [if_pos (by omega)])
          have z1 : ∀ c, c < i → msw M i (i + j) (v + 1) i c = 0 := fun c hc => by
            unfold msw; rw [if_pos (by omega), if_pos rfl, hu (i + j) c (by omega) hc, if_neg (by omega)]
          have q2 : leqs (msw M i (i + j) (v + 1)) (msc (msw M i (i + j) (v + 1)) i (M (i + j) i) (v + 1)) v := leqs_scale (i := i) (b := (M (i + j) i)⁻¹) (fun e => hb (by grind)) (fun r c _ hc => by
            unfold msc
            by_cases e : r = i
            · subst e
              rw [if_pos rfl]
              by_cases e2 : r ≤ c
              · rw [if_pos (by omega)]; grind
              · rw [if_neg (by omega), z1 c (by omega)]; grind
            · rw [if_neg (by omega), if_neg e])
          have z2 : ∀ c, c < i → msc (msw M i (i + j) (v + 1)) i (M (i + j) i) (v + 1) i c = 0 := fun c hc => by
            unfold msc; rw [if_neg (by omega)]; exact z1 c hc
          refine leqs_trans hq (leqs_trans q1 (leqs_trans q2 (leqs_elim (i := i) hi (fun r => msc (msw M i (i + j) (v + 1)) i (M (i + j) i) (v + 1) r i) (fun r c hr hc => ?_))))
          by_cases e : r = i
          · rw [if_pos e]; unfold mer; rw [if_neg (by omega)]
          · rw [if_neg e]
            by_cases e2 : i ≤ c
            · unfold mer; rw [if_pos ⟨hr, e, e2⟩]
            · rw [z2 c (by omega)]; unfold mer; rw [if_neg (by omega)]; grind
        · intro r c hr hc
          have hsw : ∀ r' c', r' < v → c' < i → msw M i (i + j) (v + 1) r' c' = if r' = c' then 1 else 0 := fun r' c' hr' hc' => by
            unfold msw
            rw [if_pos (by omega)]
            by_cases e : r' = i
            · rw [if_pos e, hu _ _ (by omega) hc', if_neg (by omega), if_neg (by omega)]
            · rw [if_neg e]
              by_cases e2 : r' = i + j
              · rw [if_pos e2, hu _ _ hi hc', if_neg (by omega), if_neg (by omega)]
              · rw [if_neg e2, hu _ _ hr' hc']
          by_cases ec : c < i
          · unfold mer
            rw [if_neg (by omega)]
            unfold msc
            rw [if_neg (by omega)]
            exact hsw r c hr ec
          · have ec2 : c = i := by omega
            subst ec2
            have hii : msc (msw M c (c + j) (v + 1)) c (M (c + j) c) (v + 1) c c = 1 := by
              unfold msc
              rw [if_pos (by omega)]
              unfold msw
              rw [if_pos (by omega), if_pos rfl]; grind
            unfold mer
            by_cases e : r = c
            · rw [if_neg (by omega), if_pos e, e]; exact hii
            · rw [if_pos (by omega), if_neg e, hii]
              have := hG.t (msc (msw M c (c + j) (v + 1)) c (M (c + j) c) (v + 1) r c)
              grind
      · refine hD _ ⟨rfl, fun r hr1 hr2 => ?_⟩
        by_cases e : r = i + j
        · rw [e]; exact (hG.e0 _).mp q
        · exact hz r hr1 (by omega)
    · rintro D _ ⟨rfl, hz⟩
      have e : i + (v - i) = v := by omega
      rw [e] at hz ⊢
      refine ⟨InRs (by omega) (by omega), InRs (by omega) (by omega), fun _ => ⟨InRs (by omega) (by omega), InRs (by omega) (by omega), fun q => absurd rfl q, fun _ => ?_⟩, fun q => by omega⟩
      exact h0 τ (hmono τ hs) (lsolve_no hi hq hu hz)
  · rintro C _ ⟨τ, M, rfl, hs, hMt, hq, hu⟩
    refine ⟨InRs (by omega) (by omega), InRs (by omega) (by omega), fun _ => ?_, fun q => by omega⟩
    obtain ⟨y1, y2⟩ := lsolve_yes hG.t hq hu
    refine zfix_count v (fun i a => ∃ υ, a = ((v : Int), (v : Int) + 1, (i : Int), υ) ∧ zsame [18, 20] σ υ ∧ υ 18 = τ 18 ∧ ∀ j : Nat, j < i → υ 20 j = g (M j v)) ?_ ?_ ⟨τ, rfl, hmono τ hs, rfl, fun j hj => by omega⟩
    · rintro D i _ hi ⟨υ, rfl, g1, g2, g3⟩ hD
      refine ⟨InRs (by omega) (by omega), InRs (by omega) (by omega), fun q => by omega, fun _ => ⟨mix_in hv hi (by omega), ⟨by omega, by omega⟩, ?_⟩⟩
      rintro _ rfl
      refine hD _ ⟨_, rfl, g1.st (by decide) _ _, by rw [zst_row (by decide)]; exact g2, fun j hj => ?_⟩
      rw [zst_at]
      by_cases e : j = i
      · subst e; rw [if_pos rfl, g2]; exact hMt j v hi (by omega)
      · rw [if_neg (by omega)]; exact g3 j (by omega)
    · rintro D _ ⟨υ, rfl, g1, g2, g3⟩
      exact ⟨InRs (by omega) (by omega), InRs (by omega) (by omega), fun _ => h1 υ g1 (fun j => M j v) g3 y1 y2, fun q => by omega⟩
