theorem lcr_some {b : Prop} [Decidable b] {R C : Nat} {ps : List (Int × Int)} {st st' : LSt} (h : lcr b R C ps st = some st') : (b → st.2.2.1 < 300 ∧ lputs R C ps (st.1, st.2.1, st.2.2.1 + 1, st.2.2.2) = some st') ∧ (¬ b → st' = st) := by
  unfold lcr at h
  by_cases e : b
  · rw [if_pos e] at h
    by_cases e2 : st.2.2.1 < 300
    · rw [if_pos e2] at h; exact ⟨fun _ => ⟨e2, h⟩, fun q => absurd e q⟩
    · rw [if_neg e2] at h; exact absurd h (by simp)
  · rw [if_neg e] at h
    exact ⟨fun q => absurd q e, fun _ => (Option.some.inj h).symm⟩
theorem sc_out {R C : Nat} (hR0 : 0 < R) (hR : R ≤ 144) (hC0 : 0 < C) (hC : C ≤ 144) (hRC : R * C ≤ 17424) {q0 : Nat} {post : ZS → Prop} {fin : LSt} : ∀ (f : Nat) (r c : Int) (st : LSt) (σ : ZS), f ≤ 300 → (-(9000 - 10 * (f : Int)) ≤ r ∧ r ≤ 9000 - 10 * (f : Int)) → (-(9000 - 10 * (f : Int)) ≤ c ∧ c ≤ 9000 - 10 * (f : Int)) → lout R C f r c st = some fin → MC R C σ st → st.2.2.1 ≤ 300 → (∀ τ, frC σ τ → MC R C τ fin → post (zst τ 32 5 (if fin.1.testBit (R * C - 1) then 0 else 1))) → zfix (wbc_X2_lay_67 q0 post) f (r, c, st.2.2.1, σ) := by
  intro f
  induction f with
  | zero => intro r c st σ hf hr hc h; exact absurd h (by unfold lout; simp)
  | succ f ih =>
    intro r c st σ hf hr hc h hM hk hp
    unfold lout at h
    split at h
    case h_1 => exact absurd h (by simp)
    case h_2 st4 hcor =>
    split at h
    case h_1 => exact absurd h (by simp)
    case h_2 r2 c2 st5 hup =>
    split at h
    case h_1 => exact absurd h (by simp)
    case h_2 r3 c3 st6 hdn =>
    have rest : ∀ τ, frC σ τ → MC R C τ st4 → st4.2.2.1 ≤ 300 → ∃ N : Nat, zfix (wbc_X2_lay_645 q0 (zfix (wbc_X2_lay_67 q0 post) f) post) N (r, c, st4.2.2.1, τ) := fun τ f1 M1 k1 => by
      have key : ∀ (g : Nat) (r c : Int) (st : LSt) (r2 c2 : Int) (st2 : LSt), lup R C g r c st = some (r2, c2, st2) → (r - 2 ≤ r2 ∨ r2 ≥ -2) ∧ r2 ≤ r ∧ c ≤ c2 ∧ (c2 ≤ c + 2 ∨ c2 ≤ 146) ∧ -2 + (if r < 0 then r else 0) ≤ r2 := by
        intro g
        induction g with
        | zero => intro r c st r2 c2 st2 h; exact absurd h (by unfold lup; simp)
        | succ g ih =>
          intro r c st r2 c2 st2 h
          unfold lup at h
          split at h
          case h_1 => exact absurd h (by simp)
          case h_2 st' q =>
            by_cases e : 0 ≤ r - 2 ∧ c + 2 < C
            · rw [if_pos e] at h
              have := ih _ _ _ _ _ _ h
              split at this <;> split <;> omega
            · rw [if_neg e] at h
              obtain ⟨rfl, rfl, rfl⟩ : r - 2 = r2 ∧ c + 2 = c2 ∧ st' = st2 := by simpa using h
              split <;> omega
      have key2 : ∀ (g : Nat) (r c : Int) (st : LSt) (r2 c2 : Int) (st2 : LSt), ldn R C g r c st = some (r2, c2, st2) → r ≤ r2 ∧ (r2 ≤ r + 2 ∨ r2 ≤ 146) ∧ c2 ≤ c ∧ (c - 2 ≤ c2 ∨ -2 ≤ c2) := by
        intro g
        induction g with
        | zero => intro r c st r2 c2 st2 h; exact absurd h (by unfold ldn; simp)
        | succ g ih =>
          intro r c st r2 c2 st2 h
          unfold ldn at h
          split at h
          case h_1 => exact absurd h (by simp)
          case h_2 st' q =>
            by_cases e : r + 2 < R ∧ 0 ≤ c - 2
            · rw [if_pos e] at h
              have := ih _ _ _ _ _ _ h
              omega
            · rw [if_neg e] at h
              obtain ⟨rfl, rfl, rfl⟩ : r + 2 = r2 ∧ c - 2 = c2 ∧ st' = st2 := by simpa using h
              omega
      obtain ⟨F, hF⟩ : ∃ F : Nat, F = 300 := ⟨_, rfl⟩
      rw [← hF] at hup hdn
      have b1 := key _ _ _ _ _ _ _ hup
      have b2 := key2 _ _ _ _ _ _ _ hdn
      refine ⟨F, sc_up hR hC hRC k1 F r c st4 τ (by omega) (by omega) hup M1 (fun υ f2 M2 k2 => ⟨k1, F, ?_⟩)⟩
      refine sc_dn hR hC hRC k1 F (r2 + 1) (c2 + 3) st5 υ (by omega) (by omega) hdn M2 (fun ω f3 M3 k3 => ?_)
      have m2 := M3.1
      have m3 := M3.2.1
      have ek : st4.2.2.1 = st6.2.2.1 := by omega
      rw [ek]
      refine ⟨by omega, InRs (by omega) (by omega), by rw [m2]; exact InRs (by omega) (by omega), fun e => ?_, fun e => ⟨InRs (by omega) (by omega), by rw [m3]; exact InRs (by omega) (by omega), fun e2 => ?_, fun e2 => ?_⟩⟩
      · rw [m2] at e
        rw [if_pos (by omega)] at h
        exact ih (r3 + 3) (c3 + 1) st6 ω (by omega) (by omega) (by omega) h M3 (by omega) (fun κ f4 M4 => hp κ (((f1.trans f2).trans f3).trans f4) M4)
      · rw [m3] at e2
        rw [if_pos (by omega)] at h
        exact ih (r3 + 3) (c3 + 1) st6 ω (by omega) (by omega) (by omega) h M3 (by omega) (fun κ f4 M4 => hp κ (((f1.trans f2).trans f3).trans f4) M4)
      · rw [m2] at e
        rw [m3] at e2
        rw [if_neg (by omega)] at h
        obtain rfl := Option.some.inj h
        have hpos : 0 < R * C := Nat.mul_pos hR0 hC0
        have e3 : ω 32 2 * ω 32 3 - 1 = ((R * C - 1 : Nat) : Int) := by
          rw [m2, m3]
          have : (R : Int) * (C : Int) = ((R * C : Nat) : Int) := by push_cast; rfl
          rw [this]; omega
        have e4 := M3.2.2.2.1 (R * C - 1) (by omega)
        rw [e3, e4]
        have hpp := hp ω ((f1.trans f2).trans f3) M3
        cases hb : st6.1.testBit (R * C - 1)
        · rw [hb] at hpp
          refine ⟨by omega, by simp; exact InR0, fun q => absurd rfl q, fun _ => ⟨by omega, .inr rfl, ?_⟩⟩
          rintro _ rfl
          simpa using hpp
        · rw [hb] at hpp
          refine ⟨by omega, by simp; exact InRs (by omega) (by omega), fun _ => ⟨by omega, .inl rfl, ?_⟩, fun q => by simp at q⟩
          rintro _ rfl
          simpa using hpp
    unfold lcorners at hcor
    split at hcor
    case h_1 => exact absurd hcor (by simp)
    case h_2 st1 hc1 =>
    split at hcor
    case h_1 => exact absurd hcor (by simp)
    case h_2 st2 hc2 =>
    split at hcor
    case h_1 => exact absurd hcor (by simp)
    case h_2 st3 hc3 =>
    obtain ⟨a1, b1⟩ := lcr_some hc1
    obtain ⟨a2, b2⟩ := lcr_some hc2
    obtain ⟨a3, b3⟩ := lcr_some hc3
    obtain ⟨a4, b4⟩ := lcr_some hcor
    have s4 : ∀ τ, frC σ τ → MC R C τ st3 → st3.2.2.1 ≤ 300 → wc_X2_lay_493 q0 (zfix (wbc_X2_lay_67 q0 post) f) post r c st3.2.2.1 τ := fun τ f1 M1 k1 => by
      have m2 := M1.1
      have m3 := M1.2.1
      have no : ¬ (r = (R : Int) + 4 ∧ c = 2 ∧ C % 8 = 0) → ∃ N : Nat, zfix (wbc_X2_lay_645 q0 (zfix (wbc_X2_lay_67 q0 post) f) post) N (r, c, st3.2.2.1, τ) := fun q => by
        have := b4 q
        subst this
        exact rest τ f1 M1 k1
      refine ⟨k1, InRs (by omega) (by omega), by rw [m2]; exact InRs (by omega) (by omega), fun e => no (by rw [m2] at e; omega), fun e => ⟨InRs (by omega) (by omega), fun e2 => no (by omega), fun e2 => ⟨by rw [m3]; exact InRs (by omega) (by omega), by rw [m3]; omega, by rw [m3]; exact InRs (by omega) (by omega), fun e3 => no (by rw [m3] at e3; omega), fun e3 => ?_⟩⟩⟩
      rw [m2] at e
      rw [m3] at e3
      obtain ⟨l1, l2⟩ := a4 (by omega)
      refine ⟨by omega, ?_⟩
      intro g h0 h1 h2 h3 h4 h5 h6 h7 h8 h9 h10 h11 h12 h13 h14 h15
      refine sc_corner hRC (ps := lcr4 R C) (by rw [h0, h1, h2, h3, h4, h5, h6, h7, h8, h9, h10, h11, h12, h13, h14, h15, m2, m3]; rfl) l2 M1 (fun υ f2 M2 k2 => ?_)
      have k2 : st4.2.2.1 = st3.2.2.1 + 1 := k2
      rw [← k2]
      exact rest υ (f1.trans f2) M2 (by omega)
    have s3 : ∀ τ, frC σ τ → MC R C τ st2 → st2.2.2.1 ≤ 300 → wc_X2_lay_346 q0 (zfix (wbc_X2_lay_67 q0 post) f) post r c st2.2.2.1 τ := fun τ f1 M1 k1 => by
      have m2 := M1.1
      have m3 := M1.2.1
      have no : ¬ (r = (R : Int) - 2 ∧ c = 0 ∧ C % 8 = 4) → wc_X2_lay_493 q0 (zfix (wbc_X2_lay_67 q0 post) f) post r c st2.2.2.1 τ := fun q => by
        have := b3 q
        subst this
        exact s4 τ f1 M1 k1
      refine ⟨k1, InRs (by omega) (by omega), by rw [m2]; exact InRs (by omega) (by omega), fun e => no (by rw [m2] at e; omega), fun e => ⟨InRs (by omega) (by omega), fun e2 => no (by omega), fun e2 => ⟨by rw [m3]; exact InRs (by omega) (by omega), by rw [m3]; omega, by rw [m3]; exact InRs (by omega) (by omega), fun e3 => no (by rw [m3] at e3; omega), fun e3 => ?_⟩⟩⟩
      rw [m2] at e
      rw [m3] at e3
      obtain ⟨l1, l2⟩ := a3 (by omega)
      refine ⟨by omega, ?_⟩
      intro g h0 h1 h2 h3 h4 h5 h6 h7 h8 h9 h10 h11 h12 h13 h14 h15
      refine sc_corner hRC (ps := lcr3 R C) (by rw [h0, h1, h2, h3, h4, h5, h6, h7, h8, h9, h10, h11, h12, h13, h14, h15, m2, m3]; rfl) l2 M1 (fun υ f2 M2 k2 => ?_)
      have k2 : st3.2.2.1 = st2.2.2.1 + 1 := k2
      rw [← k2]
      exact s4 υ (f1.trans f2) M2 (by omega)
    have s2 : ∀ τ, frC σ τ → MC R C τ st1 → st1.2.2.1 ≤ 300 → wc_X2_lay_201 q0 (zfix (wbc_X2_lay_67 q0 post) f) post r c st1.2.2.1 τ := fun τ f1 M1 k1 => by
      have m2 := M1.1
      have m3 := M1.2.1
      have no : ¬ (r = (R : Int) - 2 ∧ c = 0 ∧ ¬ C % 4 = 0) → wc_X2_lay_346 q0 (zfix (wbc_X2_lay_67 q0 post) f) post r c st1.2.2.1 τ := fun q => by
        have := b2 q
        subst this
        exact s3 τ f1 M1 k1
      refine ⟨k1, InRs (by omega) (by omega), by rw [m2]; exact InRs (by omega) (by omega), fun e => no (by rw [m2] at e; omega), fun e => ⟨InRs (by omega) (by omega), fun e2 => no (by omega), fun e2 => ⟨by rw [m3]; exact InRs (by omega) (by omega), by rw [m3]; omega, by rw [m3]; exact InRs (by omega) (by omega), fun e3 => no (by rw [m3] at e3; omega), fun e3 => ?_⟩⟩⟩
      rw [m2] at e
      rw [m3] at e3
      obtain ⟨l1, l2⟩ := a2 (by omega)
      refine ⟨by omega, ?_⟩
      intro g h0 h1 h2 h3 h4 h5 h6 h7 h8 h9 h10 h11 h12 h13 h14 h15
      refine sc_corner hRC (ps := lcr2 R C) (by rw [h0, h1, h2, h3, h4, h5, h6, h7, h8, h9, h10, h11, h12, h13, h14, h15, m2, m3]; rfl) l2 M1 (fun υ f2 M2 k2 => ?_)
      have k2 : st2.2.2.1 = st1.2.2.1 + 1 := k2
      rw [← k2]
      exact s3 υ (f1.trans f2) M2 (by omega)
    have m2 := hM.1
    have m3 := hM.2.1
    have no : ¬ (r = (R : Int) ∧ c = 0) → wc_X2_lay_201 q0 (zfix (wbc_X2_lay_67 q0 post) f) post r c st.2.2.1 σ := fun q => by
      have := b1 q
      subst this
      exact s2 σ (frC.refl _) hM hk
    refine ⟨hk, InRs (by omega) (by omega), by rw [m2]; exact InRs (by omega) (by omega), fun e => no (by rw [m2] at e; omega), fun e => ⟨InRs (by omega) (by omega), fun e2 => no (by omega), fun e2 => ?_⟩⟩
    rw [m2] at e
    obtain ⟨l1, l2⟩ := a1 ⟨e, e2⟩
    refine ⟨by omega, ?_⟩
    intro g h0 h1 h2 h3 h4 h5 h6 h7 h8 h9 h10 h11 h12 h13 h14 h15
    refine sc_corner hRC (ps := lcr1 R C) (by rw [h0, h1, h2, h3, h4, h5, h6, h7, h8, h9, h10, h11, h12, h13, h14, h15, m2, m3]; rfl) l2 hM (fun υ f2 M2 k2 => ?_)
    have k2 : st1.2.2.1 = st.2.2.1 + 1 := k2
    rw [← k2]
    exact s2 υ f2 M2 (by omega)
/-- what has been laid for a symbol -/
def layS (s : Nat) : LSt := (lrun s).getD (0, 0, 0, [])
def layA (s j : Nat) : Nat := (layS s).2.2.2.getD (8 * zAll s - 1 - j) 0
theorem layS_ok {s : Nat} (hs : s < 30) : lout (zPR s) (zPC s) 300 4 0 (0, 0, 0, []) = some (layS s) ∧ (layS s).2.1 = 8 * zAll s ∧ (∀ x, x ∈ (layS s).2.2.2 → x < zPR s * zPC s ∧ (layS s).1.testBit x = true) ∧ ((layS s).1.testBit (zPR s * zPC s - 1) = false → (layS s).1.testBit (zPR s * zPC s - zPC s - 2) = false) := by
  have h := lchk_all s hs
  unfold lchk at h
  split at h
  case h_1 => exact absurd h (by simp)
  case h_2 st q =>
    have e : layS s = st := by unfold layS; rw [q]; rfl
    rw [e]
    simp only [Bool.and_eq_true, beq_iff_eq, List.all_eq_true, Bool.or_eq_true, Bool.not_eq_true'] at h
    refine ⟨q, h.1.1, fun x hx => ?_, fun h2 => ?_⟩
    · have := h.1.2 x hx
      exact ⟨Nat.le_of_ble_eq_true this.1, this.2⟩
    · rcases h.2 with h3 | h3
      · rw [h2] at h3; exact absurd h3 (by simp)
      · exact h3
theorem zplane {s : Nat} (hs : s < 30) : 0 < zPR s ∧ zPR s ≤ 144 ∧ 0 < zPC s ∧ zPC s ≤ 144 ∧ zPR s * zPC s ≤ 17424 ∧ 8 * zAll s ≤ zPR s * zPC s := by
  have : ∀ s : Nat, s < 30 → 0 < zPR s ∧ zPR s ≤ 144 ∧ 0 < zPC s ∧ zPC s ≤ 144 ∧ zPR s * zPC s ≤ 17424 ∧ 8 * zAll s ≤ zPR s * zPC s := by decide +kernel
  exact this s hs
/-- the component's plane is laid for a symbol -/
def LayC (s : Nat) (σ : ZS) : Prop := σ 32 6 = ((2 + s : Nat) : Int) ∧ (∀ j : Nat, j < 8 * zAll s → σ 33 j = layA s j) ∧ σ 32 5 = (if (layS s).1.testBit (zPR s * zPC s - 1) then 0 else 1)
theorem lc_lay {σ : ZS} {post : ZS → Prop} (hC : TabC σ) {s : Nat} (hs : s < 30) (h6 : σ 32 6 < 32) (hl : σ 32 6 = ((2 + s : Nat) : Int) → LayC s σ) (h : ∀ τ, zsame [32, 33, 34] σ τ → LayC s τ → post τ) : wc_X2_lay (2 + s) σ post := by
  obtain ⟨p1, p2, p3, p4, p5, p6⟩ := zplane hs
  obtain ⟨a0, a1, a2, a3, a4, a5, a6, a7, a8, a9, a10⟩ := hC s hs
  refine ⟨⟨by omega, by omega⟩, h6, fun e => ?_, fun e => h σ (zsame.refl _ _) (hl e)⟩
  rintro _ rfl _ rfl _ rfl _ rfl
  have c1 : ∀ (τ : ZS) i v f, zst τ 32 i v (2 + s) f = τ (2 + s) f := fun τ i v f => zst_cell (by omega)
  obtain ⟨τ, hτ⟩ : ∃ τ, τ = zst (zst (zst (zst σ 32 6 ((2 + s : Nat) : Int)) 32 2 (zst σ 32 6 ((2 + s : Nat) : Int) (2 + s) 5)) 32 3 (zst (zst σ 32 6 ((2 + s : Nat) : Int)) 32 2 (zst σ 32 6 ((2 + s : Nat) : Int) (2 + s) 5) (2 + s) 6)) 32 4 0 := ⟨_, rfl⟩
  rw [← hτ]
  have f1 : zsame [32] σ τ := by rw [hτ]; exact ((((zsame.refl _ _).st (by decide) _ _).st (by decide) _ _).st (by decide) _ _).st (by decide) _ _
  have t2 : τ 32 2 = zPR s := by rw [hτ, zst_place (by decide), zst_place (by decide), zst_self, c1, a5]
  have t3 : τ 32 3 = zPC s := by rw [hτ, zst_place (by decide), zst_self, c1, c1, a6]
  have t4 : τ 32 4 = 0 := by rw [hτ, zst_self]
  have t6 : τ 32 6 = ((2 + s : Nat) : Int) := by rw [hτ, zst_place (by decide), zst_place (by decide), zst_place (by decide), zst_self]
  have eRC : (zPR s : Int) * (zPC s : Int) = ((zPR s * zPC s : Nat) : Int) := by push_cast; rfl
  refine zfix_count (zPR s * zPC s) (fun i a => ∃ υ : ZS, a = ((i : Int), 0, υ) ∧ zsame [34] τ υ ∧ ∀ j : Nat, j < i → υ 34 j = 0) ?_ ?_ ⟨τ, rfl, zsame.refl _ _, fun j hj => by omega⟩
  · rintro D i _ hi ⟨υ, rfl, g1, g2⟩ hD
    have e2 : υ 32 2 * υ 32 3 = ((zPR s * zPC s : Nat) : Int) := by rw [g1 32 (by decide), t2, t3, eRC]
    refine ⟨by omega, InRs (by omega) (by omega), by rw [e2]; exact InRs (by omega) (by omega), fun q => by rw [e2] at q; omega, fun _ => ⟨by omega, ?_⟩⟩
    rintro _ rfl
    refine hD _ ⟨_, rfl, g1.st (by decide) _ _, fun j hj => ?_⟩
    rw [zst_at]
    by_cases e3 : j = i
    · rw [if_pos (by omega)]
    · rw [if_neg (by omega)]; exact g2 j (by omega)
  · rintro D _ ⟨υ, rfl, g1, g2⟩
    have e2 : υ 32 2 * υ 32 3 = ((zPR s * zPC s : Nat) : Int) := by rw [g1 32 (by decide), t2, t3, eRC]
    refine ⟨by omega, InRs (by omega) (by omega), by rw [e2]; exact InRs (by omega) (by omega), fun _ => ⟨300, ?_⟩, fun q => by rw [e2] at q; omega⟩
    obtain ⟨l1, l2, l3, l4⟩ := layS_ok hs
    have hM : MC (zPR s) (zPC s) υ (0, 0, 0, []) := ⟨by rw [g1 32 (by decide)]; exact t2, by rw [g1 32 (by decide)]; exact t3, by rw [g1 32 (by decide)]; exact t4, fun i hi => by rw [g2 i hi]; simp, rfl, fun j hj => absurd hj (Nat.not_lt_zero _)⟩
    refine sc_out p1 p2 p3 p4 p5 300 4 0 (0, 0, 0, []) υ (by omega) (by omega) (by omega) l1 hM (by decide) (fun ω f2 M2 => ?_)
    refine h _ (((f1.mono (fun c hc => by simp at hc ⊢; omega)).trans (g1.mono (fun c hc => by simp at hc ⊢; omega))).trans (f2.1.st (by decide) _ _)) ⟨?_, fun j hj => ?_, by rw [zst_self]⟩
    · rw [zst_place (by decide), f2.2 6 (by decide), g1 32 (by decide)]; exact t6
    · rw [zst_cell (by decide), M2.2.2.2.2.2 j (by rw [l2]; exact hj), l2]; rfl
