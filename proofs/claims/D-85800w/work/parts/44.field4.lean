/-! equations of v unknowns, what they come to in column v -/
def lker {F : Type} [Lean.Grind.Field F] (M : Nat → Nat → F) (v : Nat) (x : Nat → F) : Prop := ∀ r, r < v → gsum (fun j => M r j * x j) (v + 1) = 0
def leqs {F : Type} [Lean.Grind.Field F] (M N : Nat → Nat → F) (v : Nat) : Prop := ∀ x, lker M v x ↔ lker N v x
theorem leqs_refl {F : Type} [Lean.Grind.Field F] (M : Nat → Nat → F) (v : Nat) : leqs M M v := fun _ => Iff.rfl
theorem leqs_trans {F : Type} [Lean.Grind.Field F] {M N P : Nat → Nat → F} {v : Nat} (h1 : leqs M N v) (h2 : leqs N P v) : leqs M P v := fun x => (h1 x).trans (h2 x)
theorem leqs_swap {F : Type} [Lean.Grind.Field F] {M N : Nat → Nat → F} {v i p : Nat} (hi : i < v) (hp : p < v) (h : ∀ r c, r < v → c ≤ v → N r c = if r = i then M p c else if r = p then M i c else M r c) : leqs M N v := by
  have row : ∀ (x : Nat → F) r, r < v → gsum (fun j => N r j * x j) (v + 1) = gsum (fun j => (if r = i then M p j else if r = p then M i j else M r j) * x j) (v + 1) := fun x r hr => gsum_congr (fun j hj => by rw [h r j hr (by omega)])
  intro x
  constructor
  · intro hx r hr
    rw [row x r hr]
    by_cases e : r = i
    · simp only [if_pos e]; exact hx p hp
    · by_cases e2 : r = p
      · simp only [if_neg e, if_pos e2]; exact hx i hi
      · simp only [if_neg e, if_neg e2]; exact hx r hr
  · intro hx r hr
    by_cases e : r = i
    · have := hx p hp
      rw [row x p hp] at this
      by_cases e2 : p = i
      · simp only [if_pos e2] at this; rw [e, ← e2]; exact this
      · simp only [if_neg e2, if_true] at this; rw [e]; exact this
    · by_cases e2 : r = p
      · have := hx i hi
        rw [row x i hi] at this
        simp only [if_true] at this; rw [e2]; exact this
      · have := hx r hr
        rw [row x r hr] at this
        simp only [if_neg e, if_neg e2] at this; exact this
theorem leqs_scale {F : Type} [Lean.Grind.Field F] {M N : Nat → Nat → F} {v i : Nat} {b : F} (hb : b ≠ 0) (h : ∀ r c, r < v → c ≤ v → N r c = if r = i then M r c * b else M r c) : leqs M N v := by
  have row : ∀ (x : Nat → F) r, r < v → gsum (fun j => N r j * x j) (v + 1) = if r = i then b * gsum (fun j => M r j * x j) (v + 1) else gsum (fun j => M r j * x j) (v + 1) := fun x r hr => by
    by_cases e : r = i
    · rw [if_pos e, ← gsum_mul]; exact gsum_congr (fun j hj => by rw [h r j hr (by omega), if_pos e]; grind)
    · rw [if_neg e]; exact gsum_congr (fun j hj => by rw [h r j hr (by omega), if_neg e])
  intro x
  constructor
  · intro hx r hr
    rw [row x r hr, hx r hr]
    split <;> grind
  · intro hx r hr
    have := hx r hr
    rw [row x r hr] at this
    by_cases e : r = i
    · rw [if_pos e] at this; exact gmul0 this hb
    · rw [if_neg e] at this; exact this
theorem leqs_elim {F : Type} [Lean.Grind.Field F] {M N : Nat → Nat → F} {v i : Nat} (hi : i < v) (t : Nat → F) (h : ∀ r c, r < v → c ≤ v → N r c = if r = i then M r c else M r c + t r * M i c) : leqs M N v := by
  have row : ∀ (x : Nat → F) r, r < v → gsum (fun j => N r j * x j) (v + 1) = if r = i then gsum (fun j => M r j * x j) (v + 1) else gsum (fun j => M r j * x j) (v + 1) + t r * gsum (fun j => M i j * x j) (v + 1) := fun x r hr => by
    by_cases e : r = i
    · rw [if_pos e]; exact gsum_congr (fun j hj => by rw [h r j hr (by omega), if_pos e])
    · rw [if_neg e, ← gsum_mul, ← gsum_add]; exact gsum_congr (fun j hj => by rw [h r j hr (by omega), if_neg e]; grind)
  intro x
  constructor
  · intro hx r hr
    rw [row x r hr, hx r hr, hx i hi]
    split <;> grind
  · intro hx r hr
    have hii := hx i hi
    rw [row x i hi, if_pos rfl] at hii
    have := hx r hr
    rw [row x r hr] at this
    by_cases e : r = i
    · rw [e]; exact hii
    · rw [if_neg e, hii] at this; grind
/-- the first i columns are the unit's -/
def lunit {F : Type} [Lean.Grind.Field F] (M : Nat → Nat → F) (v i : Nat) : Prop := ∀ r c, r < v → c < i → M r c = if r = c then 1 else 0
theorem lsolve_yes {F : Type} [Lean.Grind.Field F] (h2 : ∀ a : F, a + a = 0) {M0 M : Nat → Nat → F} {v : Nat} (hq : leqs M0 M v) (hu : lunit M v v) : (∀ r, r < v → gsum (fun j => M0 r j * M j v) v = M0 r v) ∧ ∀ x : Nat → F, (∀ r, r < v → gsum (fun j => M0 r j * x j) v = 0) → ∀ j, j < v → x j = 0 := by
  have hrow : ∀ (x : Nat → F) r, r < v → gsum (fun j => M r j * x j) (v + 1) = x r + M r v * x v := fun x r hr => by
    rw [gsum_succ, gsum_one hr (fun j hj hne => by rw [hu r j hr hj, if_neg (fun e => hne e.symm)]; grind), hu r r hr hr, if_pos rfl]; grind
  constructor
  · intro r hr
    have h1 : lker M v (fun j => if j = v then 1 else M j v) := fun r hr => by
      rw [hrow _ r hr, if_neg (by omega), if_pos rfl]
      have := h2 (M r v); grind
    have h3 := (hq _).mpr h1 r hr
    rw [gsum_succ, if_pos rfl] at h3
    have e : gsum (fun j => M0 r j * if j = v then 1 else M j v) v = gsum (fun j => M0 r j * M j v) v := gsum_congr (fun j hj => by rw [if_neg (by omega)])
    rw [e] at h3
    have := h2 (M0 r v)
    grind
  · intro x hx j hj
    have h1 : lker M0 v (fun j => if j = v then 0 else x j) := fun r hr => by
      rw [gsum_succ]; dsimp only; rw [if_pos rfl]
      have e : gsum (fun j => M0 r j * if j = v then 0 else x j) v = gsum (fun j => M0 r j * x j) v := gsum_congr (fun j hj => by rw [if_neg (by omega)])
      rw [e, hx r hr]; grind
    have h3 := (hq _).mp h1 j hj
    rw [hrow _ j hj, if_neg (by omega), if_pos rfl] at h3
    grind
theorem lsolve_no {F : Type} [Lean.Grind.Field F] {M0 M : Nat → Nat → F} {v i : Nat} (hi : i < v) (hq : leqs M0 M v) (hu : lunit M v i) (hz : ∀ r, i ≤ r → r < v → M r i = 0) : ∃ x : Nat → F, (∃ j, j < v ∧ x j ≠ 0) ∧ ∀ r, r < v → gsum (fun j => M0 r j * x j) v = 0 := by
  have h1 : lker M v (fun j => if j < i then - M j i else if j = i then 1 else 0) := fun r hr => by
    rw [gsum_cut (m := i + 1) (by omega) (fun j h1 h2 => by dsimp only; rw [if_neg (by omega), if_neg (by omega)]; grind), gsum_succ]
    dsimp only
    rw [if_neg (by omega), if_pos rfl]
    by_cases e : r < i
    · rw [gsum_one e (fun j hj hne => by rw [hu r j hr (by omega), if_neg (fun e => hne e.symm)]; grind), hu r r hr e, if_pos rfl, if_pos e]; grind
    · rw [gsum_nil (fun j hj => by rw [hu r j hr hj, if_neg (by omega)]; grind), hz r (by omega) hr]; grind
  refine ⟨fun j => if j < i then - M j i else if j = i then 1 else 0, ⟨i, hi, ?_⟩, fun r hr => ?_⟩
  · show (if i < i then - M i i else if i = i then (1 : F) else 0) ≠ 0
    rw [if_neg (by omega), if_pos rfl]
    exact fun e => Lean.Grind.Field.zero_ne_one e.symm
  · have := (hq _).mpr h1 r hr
    rw [gsum_succ, if_neg (by omega), if_neg (by omega)] at this
    grind
/-! wrong numbers by such equations -/
theorem pgz_row {F : Type} [Lean.Grind.Field F] (v : Nat) (X Y a : Nat → F) (n i : Nat) : gsum (fun j => ssum v X Y (i + j) * a j) n = gsum (fun l => (Y l * X l * pev a n (X l)) * X l ^ i) v := by
  have e : gsum (fun j => ssum v X Y (i + j) * a j) n = gsum (fun j => gsum (fun l => a j * (Y l * X l ^ (i + j + 1))) v) n := gsum_congr (fun j _ => by
    rw [gsum_mul]; show gsum _ v * a j = a j * gsum _ v; grind)
  rw [e, gsum_swap]
  exact gsum_congr (fun l _ => by
    unfold pev
    rw [← gsum_mul, ← gsum_mulr]
    exact gsum_congr (fun j _ => by rw [gpow_succ, gpow_add]; grind))
/-- more unknowns than wrong numbers: no one answer -/
theorem pgz_more {F : Type} [Lean.Grind.Field F] {v : Nat} {X Y : Nat → F} {u : Nat} (hu : v < u) : ∃ x : Nat → F, (∃ j, j < u ∧ x j ≠ 0) ∧ ∀ i, i < u → gsum (fun j => ssum v X Y (i + j) * x j) u = 0 := by
  obtain ⟨p, h1, h2, h3⟩ := pvanish X v
  refine ⟨p, ⟨v, hu, ?_⟩, fun i _ => ?_⟩
  · rw [h1]; exact fun e => Lean.Grind.Field.zero_ne_one e.symm
  · rw [pgz_row]
    exact gsum_nil (fun l hl => by
      have : pev p u (X l) = 0 := by
        have e := h3 l hl
        unfold pev at e ⊢
        rw [← e]
        exact gsum_cut (by omega) (fun i h4 _ => by rw [h2 i (by omega)]; grind)
      rw [this]; grind)
theorem pgz_zeros {F : Type} [Lean.Grind.Field F] {v : Nat} {X Y : Nat → F} (hd : ∀ i j, i < v → j < v → X i = X j → i = j) (hX : ∀ l, l < v → X l ≠ 0) (hY : ∀ l, l < v → Y l ≠ 0) {n : Nat} {x : Nat → F} (h : ∀ i, i < v → gsum (fun j => ssum v X Y (i + j) * x j) n = 0) : ∀ l, l < v → pev x n (X l) = 0 := fun l hl => by
  have h1 := pvander v (fun l => Y l * X l * pev x n (X l)) X (fun m hm => by rw [← pgz_row]; exact h m hm) hd l hl
  exact gmul0 (gmul0 (a := Y l) (by grind) (hY l hl)) (hX l hl)
/-- just so many: at most one answer -/
theorem pgz_just {F : Type} [Lean.Grind.Field F] {v : Nat} {X Y : Nat → F} (hd : ∀ i j, i < v → j < v → X i = X j → i = j) (hX : ∀ l, l < v → X l ≠ 0) (hY : ∀ l, l < v → Y l ≠ 0) {x : Nat → F} (h : ∀ i, i < v → gsum (fun j => ssum v X Y (i + j) * x j) v = 0) : ∀ j, j < v → x j = 0 :=
  proots v x X (pgz_zeros hd hX hY h) hd
/-- the answer's zeros are the powers, and no others -/
def ptop {F : Type} [Lean.Grind.Field F] (a : Nat → F) (v : Nat) : Nat → F := fun i => if i = v then 1 else a i
theorem pgz_answer {F : Type} [Lean.Grind.Field F] (h2 : ∀ a : F, a + a = 0) {v : Nat} {X Y : Nat → F} (hd : ∀ i j, i < v → j < v → X i = X j → i = j) (hX : ∀ l, l < v → X l ≠ 0) (hY : ∀ l, l < v → Y l ≠ 0) {a : Nat → F} (h : ∀ i, i < v → gsum (fun j => ssum v X Y (i + j) * a j) v = ssum v X Y (i + v)) (x : F) : pev (ptop a v) (v + 1) x = 0 ↔ ∃ l, l < v ∧ X l = x := by
  have hz : ∀ l, l < v → pev (ptop a v) (v + 1) (X l) = 0 := pgz_zeros hd hX hY (fun i hi => by
    have e : gsum (fun j => ssum v X Y (i + j) * ptop a v j) v = gsum (fun j => ssum v X Y (i + j) * a j) v := gsum_congr (fun j hj => by unfold ptop; rw [if_neg (by omega)])
    rw [gsum_succ, e, h i hi]
    unfold ptop
    rw [if_pos rfl]
    have := h2 (ssum v X Y (i + v)); grind)
  constructor
  · intro hx
    rcases Classical.em (∃ l, l < v ∧ X l = x) with h | h
    · exact h
    · exfalso
      have hx' : ∀ l, l < v → X l ≠ x := fun l hl e => h ⟨l, hl, e⟩
      have := proots (v + 1) (ptop a v) (fun i => if i = v then x else X i) (fun i hi => by
        show pev _ _ (if i = v then x else X i) = 0
        by_cases e : i = v
        · rw [if_pos e]; exact hx
        · rw [if_neg e]; exact hz i (by omega)) (fun i j hi hj e => by
          have e : (if i = v then x else X i) = (if j = v then x else X j) := e
          by_cases ei : i = v
          · by_cases ej : j = v
            · omega
            · rw [if_pos ei, if_neg ej] at e; exact absurd e.symm (hx' j (by omega))
          · by_cases ej : j = v
            · rw [if_neg ei, if_pos ej] at e; exact absurd e (hx' i (by omega))
            · rw [if_neg ei, if_neg ej] at e; exact hd i j (by omega) (by omega) e) v (by omega)
      unfold ptop at this
      rw [if_pos rfl] at this
      exact Lean.Grind.Field.zero_ne_one this.symm
  · rintro ⟨l, hl, rfl⟩; exact hz l hl
/-- the wrong numbers are the one answer of the powers' equations -/
theorem pgz_values {F : Type} [Lean.Grind.Field F] {v : Nat} {X Y : Nat → F} (hd : ∀ i j, i < v → j < v → X i = X j → i = j) (hX : ∀ l, l < v → X l ≠ 0) {z : Nat → F} (h : ∀ i, i < v → gsum (fun j => X j ^ (i + 1) * z j) v = ssum v X Y i) : ∀ j, j < v → z j = Y j := fun j hj => by
  have h1 := pvander v (fun l => (z l - Y l) * X l) X (fun m hm => by
    have e : gsum (fun l => (z l - Y l) * X l * X l ^ m) v = gsum (fun j => X j ^ (m + 1) * z j) v - ssum v X Y m := by
      unfold ssum
      rw [← gsum_sub]
      exact gsum_congr (fun l _ => by rw [gpow_succ]; grind)
    rw [e, h m hm]; grind) hd j hj
  have h3 := hX j hj
  exact gsub0 (gmul0 (a := X j) (by grind) h3)
theorem pgz_one {F : Type} [Lean.Grind.Field F] {v : Nat} {X : Nat → F} (hd : ∀ i j, i < v → j < v → X i = X j → i = j) (hX : ∀ l, l < v → X l ≠ 0) {z : Nat → F} (h : ∀ i, i < v → gsum (fun j => X j ^ (i + 1) * z j) v = 0) : ∀ j, j < v → z j = 0 := fun j hj => by
  have h1 := pvander v (fun l => z l * X l) X (fun m hm => by
    rw [← h m hm]
    exact gsum_congr (fun l _ => by rw [gpow_succ]; grind)) hd j hj
  have h3 := hX j hj
  exact gmul0 (a := X j) (by grind) h3
