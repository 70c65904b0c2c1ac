/-! the plain form maps the plane so -/
def plc (s x : Nat) : Nat := 144 * (1 + x / zPC s + 2 * (x / zPC s / (zPR s / zBelow s))) + 1 + x % zPC s + 2 * (x % zPC s / (zPC s / zBeside s))
def MM (s : Nat) (σ : ZS) (st : LSt) (b : Nat) : Prop := σ 0 15 = zPR s ∧ σ 0 16 = zPC s ∧ σ 0 12 = s ∧ (∃ p : Nat, σ 0 17 = p ∧ st.2.1 = 8 * p + b) ∧ (∀ i : Nat, i < zPR s * zPC s → (σ 10 i = 0 ↔ st.1.testBit i = false) ∧ InR (σ 10 i)) ∧ st.2.2.2.length = st.2.1 ∧ ∀ j : Nat, j < st.2.1 → σ 11 j = plc s (st.2.2.2.getD (st.2.1 - 1 - j) 0)
def frM (σ τ : ZS) : Prop := zsame [0, 10, 11] σ τ ∧ ∀ f, f ≠ 17 → τ 0 f = σ 0 f
theorem frM.refl (σ : ZS) : frM σ σ := ⟨zsame.refl _ _, fun _ _ => rfl⟩
theorem frM.trans {σ τ υ : ZS} (h1 : frM σ τ) (h2 : frM τ υ) : frM σ υ := ⟨h1.1.trans h2.1, fun f hf => (h2.2 f hf).trans (h1.2 f hf)⟩
theorem frM.tab {σ τ : ZS} (h : frM σ τ) (hT : TabM σ) : TabM τ := hT.same h.1 (fun q h1 h2 => by simp; omega)
theorem zreg {s : Nat} (hs : s < 30) : 0 < zBelow s ∧ zBelow s ≤ 6 ∧ 0 < zBeside s ∧ zBeside s ≤ 6 ∧ 0 < zPR s / zBelow s ∧ 0 < zPC s / zBeside s ∧ zRows s / zBelow s = zPR s / zBelow s + 2 ∧ zCols s / zBeside s = zPC s / zBeside s + 2 ∧ zPR s = zPR s / zBelow s * zBelow s ∧ zPC s = zPC s / zBeside s * zBeside s := by
  have : ∀ s : Nat, s < 30 → 0 < zBelow s ∧ zBelow s ≤ 6 ∧ 0 < zBeside s ∧ zBeside s ≤ 6 ∧ 0 < zPR s / zBelow s ∧ 0 < zPC s / zBeside s ∧ zRows s / zBelow s = zPR s / zBelow s + 2 ∧ zCols s / zBeside s = zPC s / zBeside s + 2 ∧ zPR s = zPR s / zBelow s * zBelow s ∧ zPC s = zPC s / zBeside s * zBeside s := by decide +kernel
  exact this s hs
theorem lm_moduleAt {σ : ZS} {post : Int → ZS → Prop} (hT : TabM σ) {s : Nat} (hs : s < 30) (h15 : σ 0 15 = zPR s) (h16 : σ 0 16 = zPC s) {r c : Nat} (hr : r < zPR s) (hc : c < zPC s) (h : post ((plc s (r * zPC s + c) : Nat) : Int) σ) : wm_moduleAt s r c σ post := by
  obtain ⟨p1, p2, p3, p4, p5, p6⟩ := zplane hs
  obtain ⟨r1, r2, r3, r4, r5, r6, r7, r8, r9, r10⟩ := zreg hs
  obtain ⟨a1, a2, a3, a4, a5, a6⟩ := hT s hs
  have b1 : zPR s / zBelow s ≤ zPR s := Nat.div_le_self _ _
  have b2 : zPC s / zBeside s ≤ zPC s := Nat.div_le_self _ _
  refine ⟨by omega, by rw [h15]; exact InRs (by omega) (by omega), by rw [h15]; omega, by rw [a5]; exact InRs (by omega) (by omega), by rw [a5]; omega, ?_⟩
  rintro _ rfl
  refine ⟨by rw [h16]; exact InRs (by omega) (by omega), by rw [h16]; omega, by rw [a6]; exact InRs (by omega) (by omega), by rw [a6]; omega, ?_⟩
  rintro _ rfl
  rw [h15, h16, a5, a6, natdiv, natdiv]
  refine ⟨InRs (by omega) (by omega), by omega, InRs (by omega) (by omega), by omega, InRs (by omega) (by omega), by omega, InRs (by omega) (by omega), by omega, ?_⟩
  rw [natdiv, natdiv]
  have e1 : (r * zPC s + c) / zPC s = r := by
    rw [Nat.mul_comm, Nat.mul_add_div (by omega), Nat.div_eq_of_lt hc]; rfl
  have e2 : (r * zPC s + c) % zPC s = c := by
    rw [Nat.mul_comm, Nat.mul_add_mod, Nat.mod_eq_of_lt hc]
  have e3 : (((144 * ((1 + (r : Int)) + (2 * ((r / (zPR s / zBelow s) : Nat) : Int))) + 1) + (c : Int)) + (2 * ((c / (zPC s / zBeside s) : Nat) : Int))) = ((plc s (r * zPC s + c) : Nat) : Int) := by
    unfold plc; rw [e1, e2]; omega
  rw [e3]; exact h
theorem sm_lie {s : Nat} (hs : s < 30) {r c : Int} {st st' : LSt} (h : lput (zPR s) (zPC s) r c st = some st') {σ : ZS} (hT : TabM σ) {b : Nat} (hb : b < 8) {post : ZS → Prop} (hM : MM s σ st b) (hp : ∀ τ, frM σ τ → MM s τ st' (b + 1) → post τ) : wm_lie r c b σ post := by
  obtain ⟨z1, z2, z3, z4, hRC, z6⟩ := zplane hs
  unfold lput at h
  split at h
  case isFalse => exact absurd h (by simp)
  case isTrue q =>
    obtain ⟨q1, q2, q3, q4, q5⟩ := q
    obtain ⟨m1, m2, m3, ⟨p, m4, m4'⟩, m5, m6, m7⟩ := hM
    obtain ⟨r, rfl⟩ : ∃ r' : Nat, r = r' := ⟨r.toNat, (Int.toNat_of_nonneg q1).symm⟩
    obtain ⟨c, rfl⟩ : ∃ c' : Nat, c = c' := ⟨c.toNat, (Int.toNat_of_nonneg q3).symm⟩
    rw [Int.toNat_natCast, Int.toNat_natCast] at h
    have hlt := ix_lt (R := zPR s) (C := zPC s) (r := r) (c := c) (by omega) (by omega)
    have hix : (zPC s : Int) * (r : Int) + (c : Int) = ((r * zPC s + c : Nat) : Int) := by
      push_cast; rw [Int.mul_comm]
    obtain ⟨x, hx⟩ : ∃ x, x = r * zPC s + c := ⟨_, rfl⟩
    have e : st' = (st.1 ||| 1 <<< x, st.2.1 + 1, st.2.2.1, x :: st.2.2.2) := by rw [hx]; exact (Option.some.inj h).symm
    unfold wm_lie
    rw [m2, hix, ← hx]
    refine ⟨by omega, ?_⟩
    rintro _ rfl
    obtain ⟨τ, hτ⟩ : ∃ τ, τ = zst σ 10 (x : Int) (8 * σ 0 17 + (b : Int) + 1) := ⟨_, rfl⟩
    rw [← hτ]
    have t0 : ∀ f, τ 0 f = σ 0 f := fun f => by rw [hτ, zst_cell (by decide)]
    have fτ : frM σ τ := ⟨by rw [hτ]; exact (zsame.refl _ _).st (by decide) _ _, fun f _ => t0 f⟩
    rw [t0, m3]
    refine lm_moduleAt (fτ.tab hT) hs (by rw [t0]; exact m1) (by rw [t0]; exact m2) (by omega) (by omega) ⟨by rw [t0, m4]; omega, ?_⟩
    rintro _ rfl
    rw [t0, m4, ← hx]
    have en : 8 * (p : Int) + (b : Int) = ((st.2.1 : Nat) : Int) := by omega
    rw [en]
    refine hp _ ⟨fτ.1.st (by decide) _ _, fun f hf => by rw [zst_cell (by decide)]; exact t0 f⟩ ?_
    subst e
    refine ⟨by rw [zst_cell (by decide), t0]; exact m1, by rw [zst_cell (by decide), t0]; exact m2, by rw [zst_cell (by decide), t0]; exact m3, ⟨p, by rw [zst_cell (by decide), t0]; exact m4, by dsimp only; omega⟩, fun i hi => ?_, by simp [m6], fun j hj => ?_⟩
    · rw [zst_cell (by decide), hτ, zst_at, m4]
      dsimp only
      rw [tb_or]
      by_cases e5 : x = i
      · rw [if_pos (by omega)]
        refine ⟨⟨fun q => by omega, fun q => by simp [e5] at q⟩, InRs (by omega) (by omega)⟩
      · rw [if_neg (by omega)]
        simpa [e5] using m5 i hi
    · dsimp only at hj ⊢
      rw [zst_at, hτ, zst_cell (by decide)]
      by_cases e5 : j = st.2.1
      · rw [if_pos (by omega), e5]; simp
      · rw [if_neg (by omega), m7 j (by omega)]
        have e6 : st.2.1 + 1 - 1 - j = (st.2.1 - 1 - j) + 1 := by omega
        rw [e6]; simp
theorem sm_round {s : Nat} (hs : s < 30) {r c : Int} (hr : -20000 ≤ r ∧ r ≤ 20000) (hc : -20000 ≤ c ∧ c ≤ 20000) {st st' : LSt} (h : lput (zPR s) (zPC s) (lrnd (zPR s) (zPC s) r c).1 (lrnd (zPR s) (zPC s) r c).2 st = some st') {σ : ZS} (hT : TabM σ) {b : Nat} (hb : b < 8) {post : ZS → Prop} (hM : MM s σ st b) (hp : ∀ τ, frM σ τ → MM s τ st' (b + 1) → post τ) : wm_round r c b σ post := by
  obtain ⟨z1, z2, z3, z4, hRC, z6⟩ := zplane hs
  have m1 := hM.1
  have m2 := hM.2.1
  have step : ∀ r1 c1 : Int, (-30000 ≤ c1 ∧ c1 ≤ 30000) → (lrnd (zPR s) (zPC s) r c).1 = (if c1 < 0 then r1 + (4 - ((zPC s : Int) + 4) % 8) else r1) → (lrnd (zPR s) (zPC s) r c).2 = (if c1 < 0 then c1 + zPC s else c1) → wm_round_36 post b r1 c1 σ := fun r1 c1 hc1 e1 e2 => by
    refine ⟨InRs (by omega) (by omega), fun q => ?_, fun q => ?_⟩
    · rw [if_neg (by omega)] at e1 e2
      rw [e1, e2] at h
      exact sm_lie hs h hT hb hM hp
    · rintro _ rfl
      refine ⟨by rw [m2]; exact InRs (by omega) (by omega), by rw [m2]; omega, ?_⟩
      rintro _ rfl
      rw [m2]
      rw [if_pos q] at e1 e2
      rw [e1, e2] at h
      exact sm_lie hs h hT hb hM hp
  refine ⟨InRs (by omega) (by omega), fun q => ?_, fun q => ?_⟩
  · refine step r c (by omega) ?_ ?_ <;> (unfold lrnd; simp only [if_neg (show ¬ r < 0 by omega)])
  · rintro _ rfl
    refine ⟨by rw [m1]; exact InRs (by omega) (by omega), by rw [m1]; omega, ?_⟩
    rintro _ rfl
    rw [m1]
    refine step _ _ (by omega) ?_ ?_ <;> (unfold lrnd; simp only [if_pos q])
theorem MM.next {s : Nat} {σ : ZS} {st : LSt} (h : MM s σ st 8) : MM s (zst σ 0 17 (σ 0 17 + 1)) st 0 := by
  obtain ⟨m1, m2, m3, ⟨p, m4, m4'⟩, m5, m6, m7⟩ := h
  refine ⟨by rw [zst_place (by decide)]; exact m1, by rw [zst_place (by decide)]; exact m2, by rw [zst_place (by decide)]; exact m3, ⟨p + 1, by rw [zst_self, m4]; rfl, by omega⟩, fun i hi => by rw [zst_cell (by decide)]; exact m5 i hi, m6, fun j hj => by rw [zst_cell (by decide)]; exact m7 j hj⟩
theorem frM.next {σ τ : ZS} (h : frM σ τ) (v : Int) : frM σ (zst τ 0 17 v) := ⟨h.1.st (by decide) _ _, fun f hf => by rw [zst_place hf]; exact h.2 f hf⟩
theorem sm_utah {s : Nat} (hs : s < 30) {r c : Int} (hr : -19000 ≤ r ∧ r ≤ 19000) (hc : -19000 ≤ c ∧ c ≤ 19000) {st st' : LSt} (h : lputs (zPR s) (zPC s) (lutah (zPR s) (zPC s) r c) st = some st') {σ : ZS} (hT : TabM σ) {post : ZS → Prop} (hM : MM s σ st 0) (hp : ∀ τ, frM σ τ → MM s τ st' 0 → post τ) : wm_utah r c σ post := by
  unfold lutah at h
  obtain ⟨s1, a1, h⟩ := lputs_cons h
  obtain ⟨s2, a2, h⟩ := lputs_cons h
  obtain ⟨s3, a3, h⟩ := lputs_cons h
  obtain ⟨s4, a4, h⟩ := lputs_cons h
  obtain ⟨s5, a5, h⟩ := lputs_cons h
  obtain ⟨s6, a6, h⟩ := lputs_cons h
  obtain ⟨s7, a7, h⟩ := lputs_cons h
  obtain ⟨s8, a8, h⟩ := lputs_cons h
  have h := lputs_nil h
  subst h
  refine sm_round hs (b := 0) (by omega) (by omega) a1 hT (by decide) hM (fun τ1 f1 M1 => ?_)
  refine sm_round hs (b := 1) (by omega) (by omega) a2 (f1.tab hT) (by decide) M1 (fun τ2 f2 M2 => ?_)
  have f2 := f1.trans f2
  refine sm_round hs (b := 2) (by omega) (by omega) a3 (f2.tab hT) (by decide) M2 (fun τ3 f3 M3 => ?_)
  have f3 := f2.trans f3
  refine sm_round hs (b := 3) (by omega) (by omega) a4 (f3.tab hT) (by decide) M3 (fun τ4 f4 M4 => ?_)
  have f4 := f3.trans f4
  refine sm_round hs (b := 4) (by omega) (by omega) a5 (f4.tab hT) (by decide) M4 (fun τ5 f5 M5 => ?_)
  have f5 := f4.trans f5
  refine sm_round hs (b := 5) (by omega) (by omega) a6 (f5.tab hT) (by decide) M5 (fun τ6 f6 M6 => ?_)
  have f6 := f5.trans f6
  refine sm_round hs (b := 6) (by omega) (by omega) a7 (f6.tab hT) (by decide) M6 (fun τ7 f7 M7 => ?_)
  have f7 := f6.trans f7
  refine sm_round hs (b := 7) (by omega) (by omega) a8 (f7.tab hT) (by decide) M7 (fun τ8 f8 M8 => ?_)
  have f8 := f7.trans f8
  rintro _ rfl
  exact hp _ (f8.next _) M8.next
def ldec (R r : Nat) : Int := if r ≤ 7 then (r : Int) else (R : Int) + r - 16
def lw4 (a b c d k : Nat) : Nat := if k < 2 then a else if k < 4 then b else if k < 6 then c else d
def lpl (a b c d k : Nat) : Nat := if k % 2 = 0 then lw4 a b c d k / 256 else lw4 a b c d k % 256
theorem sm_corner {s : Nat} (hs : s < 30) {a b c d : Nat} (ha : a < 65536) (hb : b < 65536) (hc : c < 65536) (hd : d < 65536) {ps : List (Int × Int)} (hps : ∀ k, k < 8 → ps.drop k = (ldec (zPR s) (lpl a b c d k / 16), ldec (zPC s) (lpl a b c d k % 16)) :: ps.drop (k + 1)) (hp8 : ps.drop 8 = []) {st st' : LSt} (h : lputs (zPR s) (zPC s) ps st = some st') {σ : ZS} (hT : TabM σ) {post : ZS → Prop} (hM : MM s σ st 0) (hp : ∀ τ, frM σ τ → MM s τ st' 0 → post τ) : wm_corner a b c d σ post := by
  obtain ⟨z1, z2, z3, z4, hRC, z6⟩ := zplane hs
  refine zfix_count 8 (fun k x => ∃ (τ : ZS) (t : LSt), x = ((a : Int), (b : Int), (c : Int), (d : Int), (k : Int), τ) ∧ frM σ τ ∧ MM s τ t k ∧ lputs (zPR s) (zPC s) (ps.drop k) t = some st') ?_ ?_ ⟨σ, st, rfl, frM.refl _, hM, h⟩
  · rintro D k _ hk ⟨τ, t, rfl, f1, M1, q1⟩ hD
    rw [hps k hk] at q1
    obtain ⟨s1, a1, a2⟩ := lputs_cons q1
    have n1 := M1.1
    have n2 := M1.2.1
    have fin : wm_lie (ldec (zPR s) (lpl a b c d k / 16)) (ldec (zPC s) (lpl a b c d k % 16)) k τ (fun σ1 => D ((a : Int), (b : Int), (c : Int), (d : Int), (k : Int) + 1, σ1)) := sm_lie hs a1 (f1.tab hT) hk M1 (fun υ f2 M2 => hD _ ⟨υ, s1, rfl, f1.trans f2, M2, a2⟩)
    have h43 : ∀ w : Nat, w = lw4 a b c d k → wm_corner_43 D post (a : Int) (b : Int) (c : Int) (d : Int) (k : Int) (w : Int) τ := fun w hw => by
      have hw6 : w < 65536 := by rw [hw]; unfold lw4; (repeat (first | assumption | split))
      have h66 : ∀ v : Nat, v = lpl a b c d k → v < 256 → wm_corner_66 D post (a : Int) (b : Int) (c : Int) (d : Int) (k : Int) (v : Int) τ := fun v hv hv2 => by
        rw [← hv] at fin
        refine ⟨InRs (by omega) (by omega), ?_⟩
        rintro _ rfl _ rfl
        have e1 : (v : Int) / 16 = ((v / 16 : Nat) : Int) := by omega
        have e2 : (v : Int) % 16 = ((v % 16 : Nat) : Int) := by omega
        rw [e1, e2]
        have h104 : ∀ t : Int, t = ldec (zPR s) (v / 16) → wm_corner_104 D post (a : Int) (b : Int) (c : Int) (d : Int) (k : Int) ((v % 16 : Nat) : Int) t τ := fun t ht => by
          subst ht
          refine ⟨InRs (by omega) (by omega), fun e => ?_, fun e => ?_⟩
          · have e3 : ldec (zPC s) (v % 16) = ((v % 16 : Nat) : Int) := if_pos (by omega)
            rw [e3] at fin; exact fin
          · have e3 : ldec (zPC s) (v % 16) = (τ 0 16 + ((v % 16 : Nat) : Int)) - 16 := by rw [n2]; exact if_neg (by omega)
            rw [e3] at fin; exact fin
        refine ⟨InRs (by omega) (by omega), fun e => h104 _ (if_pos (by omega)).symm, fun e => h104 _ ?_⟩
        rw [n1]; exact (if_neg (by omega)).symm
      refine ⟨InRs (by omega) (by omega), by omega, InRs (by omega) (by omega), fun e => ?_, fun e => ⟨InRs (by omega) (by omega), ?_⟩⟩
      · have e1 : (w : Int) % 256 = ((w % 256 : Nat) : Int) := by omega
        rw [e1]
        exact h66 _ (by unfold lpl; rw [if_neg (by omega), hw]) (by omega)
      · have e1 : (w : Int) / 256 = ((w / 256 : Nat) : Int) := by omega
        rw [e1]
        exact h66 _ (by unfold lpl; rw [if_pos (by omega), hw]) (by omega)
    refine ⟨InRs (by omega) (by omega), fun e => by omega, fun _ => ⟨fun e => ⟨fun e2 => ⟨fun e3 => h43 d ?_, fun e3 => h43 c ?_⟩, fun e2 => h43 b ?_⟩, fun e => h43 a ?_⟩⟩
    · unfold lw4; rw [if_neg (by omega), if_neg (by omega), if_neg (by omega)]
    · unfold lw4; rw [if_neg (by omega), if_neg (by omega), if_pos (by omega)]
    · unfold lw4; rw [if_neg (by omega), if_pos (by omega)]
    · unfold lw4; rw [if_pos (by omega)]
  · rintro D _ ⟨τ, t, rfl, f1, M1, q1⟩
    rw [hp8] at q1
    have := lputs_nil q1
    subst this
    refine ⟨InRs (by omega) (by omega), fun _ => ?_, fun e => by omega⟩
    rintro _ rfl
    exact hp _ (f1.next _) M1.next
