/-! the field of 256 numbers (x^8 + x^5 + x^3 + x^2 + 1) -/
def geT : List Nat := [1, 2, 4, 8, 16, 32, 64, 128, 45, 90, 180, 69, 138, 57, 114, 228, 229, 231, 227, 235, 251, 219, 155, 27, 54, 108, 216, 157, 23, 46, 92, 184, 93, 186, 89, 178, 73, 146, 9, 18, 36, 72, 144, 13, 26, 52, 104, 208, 141, 55, 110, 220, 149, 7, 14, 28, 56, 112, 224, 237, 247, 195, 171, 123, 246, 193, 175, 115, 230, 225, 239, 243, 203, 187, 91, 182, 65, 130, 41, 82, 164, 101, 202, 185, 95, 190, 81, 162, 105, 210, 137, 63, 126, 252, 213, 135, 35, 70, 140, 53, 106, 212, 133, 39, 78, 156, 21, 42, 84, 168, 125, 250, 217, 159, 19, 38, 76, 152, 29, 58, 116, 232, 253, 215, 131, 43, 86, 172, 117, 234, 249, 223, 147, 11, 22, 44, 88, 176, 77, 154, 25, 50, 100, 200, 189, 87, 174, 113, 226, 233, 255, 211, 139, 59, 118, 236, 245, 199, 163, 107, 214, 129, 47, 94, 188, 85, 170, 121, 242, 201, 191, 83, 166, 97, 194, 169, 127, 254, 209, 143, 51, 102, 204, 181, 71, 142, 49, 98, 196, 165, 103, 206, 177, 79, 158, 17, 34, 68, 136, 61, 122, 244, 197, 167, 99, 198, 161, 111, 222, 145, 15, 30, 60, 120, 240, 205, 183, 67, 134, 33, 66, 132, 37, 74, 148, 5, 10, 20, 40, 80, 160, 109, 218, 153, 31, 62, 124, 248, 221, 151, 3, 6, 12, 24, 48, 96, 192, 173, 119, 238, 241, 207, 179, 75, 150]
def glT : List Nat := [0, 0, 1, 240, 2, 225, 241, 53, 3, 38, 226, 133, 242, 43, 54, 210, 4, 195, 39, 114, 227, 106, 134, 28, 243, 140, 44, 23, 55, 118, 211, 234, 5, 219, 196, 96, 40, 222, 115, 103, 228, 78, 107, 125, 135, 8, 29, 162, 244, 186, 141, 180, 45, 99, 24, 49, 56, 13, 119, 153, 212, 199, 235, 91, 6, 76, 220, 217, 197, 11, 97, 184, 41, 36, 223, 253, 116, 138, 104, 193, 229, 86, 79, 171, 108, 165, 126, 145, 136, 34, 9, 74, 30, 32, 163, 84, 245, 173, 187, 204, 142, 81, 181, 190, 46, 88, 100, 159, 25, 231, 50, 207, 57, 147, 14, 67, 120, 128, 154, 248, 213, 167, 200, 63, 236, 110, 92, 176, 7, 161, 77, 124, 221, 102, 218, 95, 198, 90, 12, 152, 98, 48, 185, 179, 42, 209, 37, 132, 224, 52, 254, 239, 117, 233, 139, 22, 105, 27, 194, 113, 230, 206, 87, 158, 80, 189, 172, 203, 109, 175, 166, 62, 127, 247, 146, 66, 137, 192, 35, 252, 10, 183, 75, 216, 31, 83, 33, 73, 164, 144, 85, 170, 246, 65, 174, 61, 188, 202, 205, 157, 143, 169, 82, 72, 182, 215, 191, 251, 47, 178, 89, 151, 101, 94, 160, 123, 26, 112, 232, 21, 51, 238, 208, 131, 58, 69, 148, 18, 15, 16, 68, 17, 121, 149, 129, 19, 155, 59, 249, 70, 214, 250, 168, 71, 201, 156, 64, 60, 237, 130, 111, 20, 93, 122, 177, 150]
def gxN (x : Nat) : Nat := if x < 128 then 2 * x else Nat.xor (2 * x) 301
theorem geT_step : ∀ k : Nat, k < 255 → gxN (geT.getD k 0) = geT.getD ((k + 1) % 255) 0 := by decide +kernel
theorem geT_log : ∀ k : Nat, k < 255 → glT.getD (geT.getD k 0) 0 = k ∧ 0 < geT.getD k 0 ∧ geT.getD k 0 < 256 := by decide +kernel
theorem glT_pow : ∀ x : Nat, x < 256 → 0 < x → geT.getD (glT.getD x 0) 0 = x ∧ glT.getD x 0 < 255 := by decide +kernel
def gE (k : Nat) : BitVec 8 := BitVec.ofNat 8 (geT.getD (k % 255) 0)
def gL (a : BitVec 8) : Nat := glT.getD a.toNat 0
theorem gE_toNat (k : Nat) : (gE k).toNat = geT.getD (k % 255) 0 := by
  unfold gE
  rw [BitVec.toNat_ofNat]
  exact Nat.mod_eq_of_lt (geT_log (k % 255) (Nat.mod_lt _ (by decide))).2.2
theorem gE_mod (k : Nat) : gE (k % 255) = gE k := by unfold gE; rw [Nat.mod_mod]
theorem gE_L {a : BitVec 8} (h : a ≠ 0) : gE (gL a) = a ∧ gL a < 255 := by
  have h0 : 0 < a.toNat := by
    rcases Nat.eq_zero_or_pos a.toNat with e | e
    · exact absurd (BitVec.eq_of_toNat_eq e) h
    · exact e
  have h1 := glT_pow a.toNat a.isLt h0
  refine ⟨BitVec.eq_of_toNat_eq ?_, h1.2⟩
  rw [gE_toNat]
  unfold gL
  rw [Nat.mod_eq_of_lt h1.2]; exact h1.1
theorem gL_E (k : Nat) : gL (gE k) = k % 255 := by
  unfold gL; rw [gE_toNat]; exact (geT_log (k % 255) (Nat.mod_lt _ (by decide))).1
theorem gE_ne (k : Nat) : gE k ≠ 0 := by
  intro e
  have h := (geT_log (k % 255) (Nat.mod_lt _ (by decide))).2.1
  rw [← gE_toNat, e] at h
  exact absurd h (by decide)
theorem gE_inj {i j : Nat} (h : gE i = gE j) : i % 255 = j % 255 := by rw [← gL_E, h, gL_E]
def gmu (a b : BitVec 8) : BitVec 8 := if a = 0 then 0 else if b = 0 then 0 else gE (gL a + gL b)
theorem gmu_E (i j : Nat) : gmu (gE i) (gE j) = gE (i + j) := by
  unfold gmu
  rw [if_neg (gE_ne i), if_neg (gE_ne j), gL_E, gL_E, ← gE_mod (i % 255 + j % 255), ← Nat.add_mod, gE_mod]
theorem gmu_0l (b : BitVec 8) : gmu 0 b = 0 := if_pos rfl
theorem gmu_0r (a : BitVec 8) : gmu a 0 = 0 := by unfold gmu; split <;> rfl
theorem gE_case (a : BitVec 8) : a = 0 ∨ ∃ k, k < 255 ∧ a = gE k := by
  by_cases h : a = 0
  · exact .inl h
  · exact .inr ⟨gL a, (gE_L h).2, (gE_L h).1.symm⟩
theorem gmu_comm (a b : BitVec 8) : gmu a b = gmu b a := by
  rcases gE_case a with rfl | ⟨i, _, rfl⟩
  · rw [gmu_0l, gmu_0r]
  · rcases gE_case b with rfl | ⟨j, _, rfl⟩
    · rw [gmu_0l, gmu_0r]
    · rw [gmu_E, gmu_E, Nat.add_comm]
theorem gmu_assoc (a b c : BitVec 8) : gmu (gmu a b) c = gmu a (gmu b c) := by
  rcases gE_case a with rfl | ⟨i, _, rfl⟩
  · rw [gmu_0l, gmu_0l, gmu_0l]
  · rcases gE_case b with rfl | ⟨j, _, rfl⟩
    · rw [gmu_0l, gmu_0r, gmu_0l]
    · rcases gE_case c with rfl | ⟨k, _, rfl⟩
      · rw [gmu_0r, gmu_0r, gmu_0r]
      · rw [gmu_E, gmu_E, gmu_E, gmu_E, Nat.add_assoc]
def gx (a : BitVec 8) : BitVec 8 := (a <<< 1) ^^^ (if a.msb then 0x2d#8 else 0#8)
theorem gx_toNat : ∀ x : Nat, x < 256 → (gx (BitVec.ofNat 8 x)).toNat = gxN x := by decide +kernel
theorem gx_E (k : Nat) : gx (gE k) = gE (k + 1) := by
  have hk : k % 255 < 255 := Nat.mod_lt _ (by decide)
  apply BitVec.eq_of_toNat_eq
  unfold gE
  rw [gx_toNat _ (geT_log _ hk).2.2, geT_step _ hk, BitVec.toNat_ofNat]
  have e : (k % 255 + 1) % 255 = (k + 1) % 255 := by omega
  rw [e]
  exact (Nat.mod_eq_of_lt (geT_log _ (Nat.mod_lt _ (by decide))).2.2).symm
theorem gx_add (a b : BitVec 8) : gx (a ^^^ b) = gx a ^^^ gx b := by
  unfold gx
  rw [BitVec.shiftLeft_xor_distrib, BitVec.msb_xor]
  cases a.msb <;> cases b.msb
  · simp
  · simp [BitVec.xor_assoc]
  · simp only [Bool.xor_false, if_true, Bool.false_eq_true, if_false, BitVec.xor_zero]
    rw [BitVec.xor_assoc, BitVec.xor_assoc, BitVec.xor_comm (b <<< 1)]
  · simp only [Bool.xor_true, Bool.not_true, if_true, Bool.false_eq_true, if_false, BitVec.xor_zero]
    rw [BitVec.xor_assoc, ← BitVec.xor_assoc 0x2d#8, BitVec.xor_comm 0x2d#8 (b <<< 1), BitVec.xor_assoc (b <<< 1), BitVec.xor_self, BitVec.xor_zero]
def gxs : Nat → BitVec 8 → BitVec 8
  | 0, a => a
  | k + 1, a => gx (gxs k a)
theorem gxs_add (a b : BitVec 8) : ∀ k, gxs k (a ^^^ b) = gxs k a ^^^ gxs k b
  | 0 => rfl
  | k + 1 => by show gx (gxs k (a ^^^ b)) = _; rw [gxs_add a b k, gx_add]; rfl
theorem gxs_zero : ∀ k, gxs k 0 = 0
  | 0 => rfl
  | k + 1 => by show gx (gxs k 0) = 0; rw [gxs_zero k]; decide
theorem gxs_E (j : Nat) : ∀ k, gxs k (gE j) = gE (k + j)
  | 0 => by rw [Nat.zero_add]; rfl
  | k + 1 => by show gx (gxs k (gE j)) = _; rw [gxs_E j k, gx_E]; congr 1; omega
theorem gmu_xs (k : Nat) (b : BitVec 8) : gmu (gE k) b = gxs k b := by
  rcases gE_case b with rfl | ⟨j, _, rfl⟩
  · rw [gmu_0r, gxs_zero]
  · rw [gmu_E, gxs_E]
theorem gmu_distr (a b c : BitVec 8) : gmu a (b ^^^ c) = gmu a b ^^^ gmu a c := by
  rcases gE_case a with rfl | ⟨i, _, rfl⟩
  · rw [gmu_0l, gmu_0l, gmu_0l]; rfl
  · rw [gmu_xs, gmu_xs, gmu_xs, gxs_add]
def ginv (a : BitVec 8) : BitVec 8 := if a = 0 then 0 else gE (255 - gL a)
theorem ginv_mul {a : BitVec 8} (h : a ≠ 0) : gmu a (ginv a) = 1 := by
  obtain ⟨h1, h2⟩ := gE_L h
  unfold ginv
  rw [if_neg h]
  have e : gmu a (gE (255 - gL a)) = gmu (gE (gL a)) (gE (255 - gL a)) := by rw [h1]
  rw [e, gmu_E, ← gE_mod]
  have e2 : (gL a + (255 - gL a)) % 255 = 0 := by omega
  rw [e2]; rfl
/-- the numbers of the field -/
def GF : Type := BitVec 8
def gnat (n : Nat) : BitVec 8 := if n % 2 = 0 then 0 else 1
theorem gnat_succ (n : Nat) : gnat (n + 1) = gnat n ^^^ 1 := by
  unfold gnat
  by_cases e : n % 2 = 0
  · rw [if_pos e, if_neg (by omega)]; rfl
  · rw [if_neg e, if_pos (by omega)]; rfl
def gnp (a : BitVec 8) : Nat → BitVec 8
  | 0 => 1
  | n + 1 => gmu (gnp a n) a
def gzp (a : BitVec 8) : Int → BitVec 8
  | .ofNat n => gnp a n
  | .negSucc n => ginv (gnp a (n + 1))
theorem ginv_one : ginv 1 = 1 := by decide
theorem ginv_zero : ginv 0 = 0 := rfl
theorem ginv_ne {a : BitVec 8} (h : a ≠ 0) : ginv a ≠ 0 := by unfold ginv; rw [if_neg h]; exact gE_ne _
theorem gmu_one (a : BitVec 8) : gmu a 1 = a := by
  rcases gE_case a with rfl | ⟨i, _, rfl⟩
  · rfl
  · exact (gmu_E i 0).trans (by rw [Nat.add_zero])
theorem ginv_inv (a : BitVec 8) : ginv (ginv a) = a := by
  by_cases h : a = 0
  · subst h; rfl
  · have h1 := ginv_mul h
    have h2 := ginv_mul (ginv_ne h)
    have : gmu a (gmu (ginv a) (ginv (ginv a))) = a := by rw [h2, gmu_one]
    rw [← gmu_assoc, h1, gmu_comm, gmu_one] at this
    exact this
abbrev gfSemi : Lean.Grind.Semiring GF where
  add a b := BitVec.xor a b
  mul a b := gmu a b
  natCast := ⟨fun n => gnat n⟩
  ofNat n := ⟨gnat n⟩
  nsmul := ⟨fun n a => gmu (gnat n) a⟩
  npow := ⟨fun a n => gnp a n⟩
  add_zero a := BitVec.xor_zero (x := (show BitVec 8 from a))
  add_comm a b := BitVec.xor_comm (show BitVec 8 from a) b
  add_assoc a b c := BitVec.xor_assoc (show BitVec 8 from a) b c
  mul_assoc a b c := gmu_assoc a b c
  mul_one a := gmu_one a
  one_mul a := (gmu_comm _ _).trans (gmu_one a)
  left_distrib a b c := gmu_distr a b c
  right_distrib a b c := (gmu_comm _ _).trans ((gmu_distr c a b).trans (by rw [gmu_comm c a, gmu_comm c b]; rfl))
  zero_mul a := gmu_0l a
  mul_zero a := gmu_0r a
  pow_zero _ := rfl
  pow_succ _ _ := rfl
  ofNat_succ n := gnat_succ n
  ofNat_eq_natCast _ := rfl
  nsmul_eq_natCast_mul _ _ := rfl
abbrev gfRing : Lean.Grind.Ring GF where
  toSemiring := gfSemi
  neg a := a
  sub a b := BitVec.xor a b
  intCast := ⟨fun i => gnat i.natAbs⟩
  zsmul := ⟨fun i a => gmu (gnat i.natAbs) a⟩
  neg_add_cancel a := BitVec.xor_self (x := (show BitVec 8 from a))
  sub_eq_add_neg _ _ := rfl
  neg_zsmul i a := by show gmu (gnat (-i).natAbs) a = gmu (gnat i.natAbs) a; rw [Int.natAbs_neg]
  zsmul_natCast_eq_nsmul _ _ := rfl
  intCast_ofNat _ := rfl
  intCast_neg i := by show gnat (-i).natAbs = gnat i.natAbs; rw [Int.natAbs_neg]
abbrev gfComm : Lean.Grind.CommRing GF where
  toRing := gfRing
  mul_comm a b := gmu_comm a b
theorem gnat01 : gnat 0 ≠ gnat 1 := by decide
abbrev gfField : Lean.Grind.Field GF where
  toCommRing := gfComm
  inv a := ginv a
  div a b := gmu a (ginv b)
  zpow := ⟨fun a i => gzp a i⟩
  div_eq_mul_inv _ _ := rfl
  zero_ne_one h := gnat01 h
  inv_zero := rfl
  mul_inv_cancel {_} h := ginv_mul h
  zpow_zero _ := rfl
  zpow_succ _ _ := rfl
  zpow_neg a i := by
    show gzp a (-i) = ginv (gzp a i)
    cases i with
    | ofNat n =>
      cases n with
      | zero => exact ginv_one.symm
      | succ n => rfl
    | negSucc n => exact (ginv_inv (gnp a (n + 1))).symm
def gtwo (F : Type) [Lean.Grind.Field F] : Prop := ∀ a : F, a + a = 0
theorem gf_two : @gtwo GF gfField := fun a => BitVec.xor_self (x := (show BitVec 8 from a))
