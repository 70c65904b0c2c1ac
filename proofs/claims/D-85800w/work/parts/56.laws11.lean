/-! the plane, laid as numbers *(state: taken places as bits, how many, corners met, places backwards)* -/
abbrev LSt : Type := Nat × Nat × Nat × List Nat
def lput (R C : Nat) (r c : Int) (st : LSt) : Option LSt := if 0 ≤ r ∧ r < R ∧ 0 ≤ c ∧ c < C ∧ st.2.1 < 17424 then some (st.1 ||| 1 <<< (r.toNat * C + c.toNat), st.2.1 + 1, st.2.2.1, (r.toNat * C + c.toNat) :: st.2.2.2) else none
def lputs (R C : Nat) : List (Int × Int) → LSt → Option LSt
  | [], st => some st
  | p :: ps, st => match lput R C p.1 p.2 st with
    | none => none
    | some st' => lputs R C ps st'
/-- a place taken round -/
def lrnd (R C : Nat) (r c : Int) : Int × Int :=
  let r1 := if r < 0 then r + R else r
  let c1 := if r < 0 then c + (4 - ((R : Int) + 4) % 8) else c
  (if c1 < 0 then r1 + (4 - ((C : Int) + 4) % 8) else r1, if c1 < 0 then c1 + C else c1)
def lutah (R C : Nat) (r c : Int) : List (Int × Int) := [lrnd R C (r - 2) (c - 2), lrnd R C (r - 2) (c - 1), lrnd R C (r - 1) (c - 2), lrnd R C (r - 1) (c - 1), lrnd R C (r - 1) c, lrnd R C r (c - 2), lrnd R C r (c - 1), lrnd R C r c]
def lcr (b : Prop) [Decidable b] (R C : Nat) (ps : List (Int × Int)) (st : LSt) : Option LSt := if b then (if st.2.2.1 < 300 then lputs R C ps (st.1, st.2.1, st.2.2.1 + 1, st.2.2.2) else none) else some st
def lcr1 (R C : Nat) : List (Int × Int) := [((R : Int) - 1, 0), ((R : Int) - 1, 1), ((R : Int) - 1, 2), (0, (C : Int) - 2), (0, (C : Int) - 1), (1, (C : Int) - 1), (2, (C : Int) - 1), (3, (C : Int) - 1)]
def lcr2 (R C : Nat) : List (Int × Int) := [((R : Int) - 3, 0), ((R : Int) - 2, 0), ((R : Int) - 1, 0), (0, (C : Int) - 4), (0, (C : Int) - 3), (0, (C : Int) - 2), (0, (C : Int) - 1), (1, (C : Int) - 1)]
def lcr3 (R C : Nat) : List (Int × Int) := [((R : Int) - 3, 0), ((R : Int) - 2, 0), ((R : Int) - 1, 0), (0, (C : Int) - 2), (0, (C : Int) - 1), (1, (C : Int) - 1), (2, (C : Int) - 1), (3, (C : Int) - 1)]
def lcr4 (R C : Nat) : List (Int × Int) := [((R : Int) - 1, 0), ((R : Int) - 1, (C : Int) - 1), (0, (C : Int) - 3), (0, (C : Int) - 2), (0, (C : Int) - 1), (1, (C : Int) - 3), (1, (C : Int) - 2), (1, (C : Int) - 1)]
def lcorners (R C : Nat) (r c : Int) (st : LSt) : Option LSt :=
  match lcr (r = R ∧ c = 0) R C (lcr1 R C) st with
  | none => none
  | some st1 => match lcr (r = (R : Int) - 2 ∧ c = 0 ∧ ¬ C % 4 = 0) R C (lcr2 R C) st1 with
    | none => none
    | some st2 => match lcr (r = (R : Int) - 2 ∧ c = 0 ∧ C % 8 = 4) R C (lcr3 R C) st2 with
      | none => none
      | some st3 => lcr (r = (R : Int) + 4 ∧ c = 2 ∧ C % 8 = 0) R C (lcr4 R C) st3
/-- a place looked at: a utah if it is free -/
def llook (R C : Nat) (r c : Int) (st : LSt) : Option LSt := if 0 ≤ r ∧ r < R ∧ 0 ≤ c ∧ c < C then (if st.1.testBit (r.toNat * C + c.toNat) then some st else lputs R C (lutah R C r c) st) else none
def lup (R C : Nat) : Nat → Int → Int → LSt → Option (Int × Int × LSt)
  | 0, _, _, _ => none
  | f + 1, r, c, st => match (if r < R ∧ 0 ≤ c then llook R C r c st else some st) with
    | none => none
    | some st' => if 0 ≤ r - 2 ∧ c + 2 < C then lup R C f (r - 2) (c + 2) st' else some (r - 2, c + 2, st')
def ldn (R C : Nat) : Nat → Int → Int → LSt → Option (Int × Int × LSt)
  | 0, _, _, _ => none
  | f + 1, r, c, st => match (if 0 ≤ r ∧ c < C then llook R C r c st else some st) with
    | none => none
    | some st' => if r + 2 < R ∧ 0 ≤ c - 2 then ldn R C f (r + 2) (c - 2) st' else some (r + 2, c - 2, st')
def lout (R C : Nat) : Nat → Int → Int → LSt → Option LSt
  | 0, _, _, _ => none
  | f + 1, r, c, st => match lcorners R C r c st with
    | none => none
    | some st1 => match lup R C 300 r c st1 with
      | none => none
      | some (r2, c2, st2) => match ldn R C 300 (r2 + 1) (c2 + 3) st2 with
        | none => none
        | some (r3, c3, st3) => if r3 + 3 < R ∨ c3 + 1 < C then lout R C f (r3 + 3) (c3 + 1) st3 else some st3
def lrun (s : Nat) : Option LSt := lout (zPR s) (zPC s) 300 4 0 (0, 0, 0, [])
def lchk (s : Nat) : Bool := match lrun s with
  | none => false
  | some st => st.2.1 == 8 * zAll s && st.2.2.2.all (fun x => Nat.ble (x + 1) (zPR s * zPC s) && st.1.testBit x) && (st.1.testBit (zPR s * zPC s - 1) || (! st.1.testBit (zPR s * zPC s - zPC s - 2)))
theorem lchk_0 : lchk 0 = true := by decide +kernel
theorem lchk_1 : lchk 1 = true := by decide +kernel
theorem lchk_2 : lchk 2 = true := by decide +kernel
theorem lchk_3 : lchk 3 = true := by decide +kernel
theorem lchk_4 : lchk 4 = true := by decide +kernel
theorem lchk_5 : lchk 5 = true := by decide +kernel
theorem lchk_6 : lchk 6 = true := by decide +kernel
theorem lchk_7 : lchk 7 = true := by decide +kernel
theorem lchk_8 : lchk 8 = true := by decide +kernel
theorem lchk_9 : lchk 9 = true := by decide +kernel
theorem lchk_10 : lchk 10 = true := by decide +kernel
theorem lchk_11 : lchk 11 = true := by decide +kernel
theorem lchk_12 : lchk 12 = true := by decide +kernel
theorem lchk_13 : lchk 13 = true := by decide +kernel
theorem lchk_14 : lchk 14 = true := by decide +kernel
theorem lchk_15 : lchk 15 = true := by decide +kernel
theorem lchk_16 : lchk 16 = true := by decide +kernel
theorem lchk_17 : lchk 17 = true := by decide +kernel
theorem lchk_18 : lchk 18 = true := by decide +kernel
theorem lchk_19 : lchk 19 = true := by decide +kernel
theorem lchk_20 : lchk 20 = true := by decide +kernel
theorem lchk_21 : lchk 21 = true := by decide +kernel
theorem lchk_22 : lchk 22 = true := by decide +kernel
theorem lchk_23 : lchk 23 = true := by decide +kernel
theorem lchk_24 : lchk 24 = true := by decide +kernel
theorem lchk_25 : lchk 25 = true := by decide +kernel
theorem lchk_26 : lchk 26 = true := by decide +kernel
theorem lchk_27 : lchk 27 = true := by decide +kernel
theorem lchk_28 : lchk 28 = true := by decide +kernel
theorem lchk_29 : lchk 29 = true := by decide +kernel
theorem lchk_all : ∀ s : Nat, s < 30 → lchk s = true
  | 0, _ => lchk_0
  | 1, _ => lchk_1
  | 2, _ => lchk_2
  | 3, _ => lchk_3
  | 4, _ => lchk_4
  | 5, _ => lchk_5
  | 6, _ => lchk_6
  | 7, _ => lchk_7
  | 8, _ => lchk_8
  | 9, _ => lchk_9
  | 10, _ => lchk_10
  | 11, _ => lchk_11
  | 12, _ => lchk_12
  | 13, _ => lchk_13
  | 14, _ => lchk_14
  | 15, _ => lchk_15
  | 16, _ => lchk_16
  | 17, _ => lchk_17
  | 18, _ => lchk_18
  | 19, _ => lchk_19
  | 20, _ => lchk_20
  | 21, _ => lchk_21
  | 22, _ => lchk_22
  | 23, _ => lchk_23
  | 24, _ => lchk_24
  | 25, _ => lchk_25
  | 26, _ => lchk_26
  | 27, _ => lchk_27
  | 28, _ => lchk_28
  | 29, _ => lchk_29
  | n + 30, h => absurd h (by omega)
