/-! the constructor of the plain form (printed by tools/walkgenJ.py) -/
def jfq5 : Int → Int := (fun j => if j = 29 then 2 else (fun j => if j = 28 then 2 else (fun j => if j = 27 then 2 else (fun j => if j = 26 then 1 else (fun j => if j = 25 then 2 else (fun j => if j = 24 then 1 else (fun j => if j = 23 then 6 else (fun j => if j = 22 then 6 else (fun j => if j = 21 then 6 else (fun j => if j = 20 then 4 else (fun j => if j = 19 then 4 else (fun j => if j = 18 then 4 else (fun j => if j = 17 then 4 else (fun j => if j = 16 then 4 else (fun j => if j = 15 then 4 else (fun j => if j = 14 then 2 else (fun j => if j = 13 then 2 else (fun j => if j = 12 then 2 else (fun j => if j = 11 then 2 else (fun j => if j = 10 then 2 else (fun j => if j = 9 then 2 else (fun j => if j = 8 then 1 else (fun j => if j = 7 then 1 else (fun j => if j = 6 then 1 else (fun j => if j = 5 then 1 else (fun j => if j = 4 then 1 else (fun j => if j = 3 then 1 else (fun j => if j = 2 then 1 else (fun j => if j = 1 then 1 else (fun j => if j = 0 then 1 else (fun _ => 0) j) j) j) j) j) j) j) j) j) j) j) j) j) j) j) j) j) j) j) j) j) j) j) j) j) j) j) j) j) j)
def jfq4 : Int → Int := (fun j => if j = 29 then 1 else (fun j => if j = 28 then 1 else (fun j => if j = 27 then 1 else (fun j => if j = 26 then 1 else (fun j => if j = 25 then 1 else (fun j => if j = 24 then 1 else (fun j => if j = 23 then 6 else (fun j => if j = 22 then 6 else (fun j => if j = 21 then 6 else (fun j => if j = 20 then 4 else (fun j => if j = 19 then 4 else (fun j => if j = 18 then 4 else (fun j => if j = 17 then 4 else (fun j => if j = 16 then 4 else (fun j => if j = 15 then 4 else (fun j => if j = 14 then 2 else (fun j => if j = 13 then 2 else (fun j => if j = 12 then 2 else (fun j => if j = 11 then 2 else (fun j => if j = 10 then 2 else (fun j => if j = 9 then 2 else (fun j => if j = 8 then 1 else (fun j => if j = 7 then 1 else (fun j => if j = 6 then 1 else (fun j => if j = 5 then 1 else (fun j => if j = 4 then 1 else (fun j => if j = 3 then 1 else (fun j => if j = 2 then 1 else (fun j => if j = 1 then 1 else (fun j => if j = 0 then 1 else (fun _ => 0) j) j) j) j) j) j) j) j) j) j) j) j) j) j) j) j) j) j) j) j) j) j) j) j) j) j) j) j) j) j)
def jfq3 : Int → Int := (fun j => if j = 29 then 1 else (fun j => if j = 28 then 1 else (fun j => if j = 27 then 1 else (fun j => if j = 26 then 1 else (fun j => if j = 25 then 1 else (fun j => if j = 24 then 1 else (fun j => if j = 23 then 10 else (fun j => if j = 22 then 8 else (fun j => if j = 21 then 6 else (fun j => if j = 20 then 6 else (fun j => if j = 19 then 4 else (fun j => if j = 18 then 4 else (fun j => if j = 17 then 4 else (fun j => if j = 16 then 4 else (fun j => if j = 15 then 2 else (fun j => if j = 14 then 2 else (fun j => if j = 13 then 1 else (fun j => if j = 12 then 1 else (fun j => if j = 11 then 1 else (fun j => if j = 10 then 1 else (fun j => if j = 9 then 1 else (fun j => if j = 8 then 1 else (fun j => if j = 7 then 1 else (fun j => if j = 6 then 1 else (fun j => if j = 5 then 1 else (fun j => if j = 4 then 1 else (fun j => if j = 3 then 1 else (fun j => if j = 2 then 1 else (fun j => if j = 1 then 1 else (fun j => if j = 0 then 1 else (fun _ => 0) j) j) j) j) j) j) j) j) j) j) j) j) j) j) j) j) j) j) j) j) j) j) j) j) j) j) j) j) j) j)
def jfq2 : Int → Int := (fun j => if j = 29 then 28 else (fun j => if j = 28 then 24 else (fun j => if j = 27 then 18 else (fun j => if j = 26 then 14 else (fun j => if j = 25 then 11 else (fun j => if j = 24 then 7 else (fun j => if j = 23 then 620 else (fun j => if j = 22 then 496 else (fun j => if j = 21 then 408 else (fun j => if j = 20 then 336 else (fun j => if j = 19 then 272 else (fun j => if j = 18 then 224 else (fun j => if j = 17 then 192 else (fun j => if j = 16 then 144 else (fun j => if j = 15 then 112 else (fun j => if j = 14 then 84 else (fun j => if j = 13 then 68 else (fun j => if j = 12 then 56 else (fun j => if j = 11 then 48 else (fun j => if j = 10 then 42 else (fun j => if j = 9 then 36 else (fun j => if j = 8 then 28 else (fun j => if j = 7 then 24 else (fun j => if j = 6 then 20 else (fun j => if j = 5 then 18 else (fun j => if j = 4 then 14 else (fun j => if j = 3 then 12 else (fun j => if j = 2 then 10 else (fun j => if j = 1 then 7 else (fun j => if j = 0 then 5 else (fun _ => 0) j) j) j) j) j) j) j) j) j) j) j) j) j) j) j) j) j) j) j) j) j) j) j) j) j) j) j) j) j) j)
def jfq1 : Int → Int := (fun j => if j = 29 then 48 else (fun j => if j = 28 then 36 else (fun j => if j = 27 then 36 else (fun j => if j = 26 then 26 else (fun j => if j = 25 then 32 else (fun j => if j = 24 then 18 else (fun j => if j = 23 then 144 else (fun j => if j = 22 then 132 else (fun j => if j = 21 then 120 else (fun j => if j = 20 then 104 else (fun j => if j = 19 then 96 else (fun j => if j = 18 then 88 else (fun j => if j = 17 then 80 else (fun j => if j = 16 then 72 else (fun j => if j = 15 then 64 else (fun j => if j = 14 then 52 else (fun j => if j = 13 then 48 else (fun j => if j = 12 then 44 else (fun j => if j = 11 then 40 else (fun j => if j = 10 then 36 else (fun j => if j = 9 then 32 else (fun j => if j = 8 then 26 else (fun j => if j = 7 then 24 else (fun j => if j = 6 then 22 else (fun j => if j = 5 then 20 else (fun j => if j = 4 then 18 else (fun j => if j = 3 then 16 else (fun j => if j = 2 then 14 else (fun j => if j = 1 then 12 else (fun j => if j = 0 then 10 else (fun _ => 0) j) j) j) j) j) j) j) j) j) j) j) j) j) j) j) j) j) j) j) j) j) j) j) j) j) j) j) j) j) j)
def jfq0 : Int → Int := (fun j => if j = 29 then 16 else (fun j => if j = 28 then 16 else (fun j => if j = 27 then 12 else (fun j => if j = 26 then 12 else (fun j => if j = 25 then 8 else (fun j => if j = 24 then 8 else (fun j => if j = 23 then 144 else (fun j => if j = 22 then 132 else (fun j => if j = 21 then 120 else (fun j => if j = 20 then 104 else (fun j => if j = 19 then 96 else (fun j => if j = 18 then 88 else (fun j => if j = 17 then 80 else (fun j => if j = 16 then 72 else (fun j => if j = 15 then 64 else (fun j => if j = 14 then 52 else (fun j => if j = 13 then 48 else (fun j => if j = 12 then 44 else (fun j => if j = 11 then 40 else (fun j => if j = 10 then 36 else (fun j => if j = 9 then 32 else (fun j => if j = 8 then 26 else (fun j => if j = 7 then 24 else (fun j => if j = 6 then 22 else (fun j => if j = 5 then 20 else (fun j => if j = 4 then 18 else (fun j => if j = 3 then 16 else (fun j => if j = 2 then 14 else (fun j => if j = 1 then 12 else (fun j => if j = 0 then 10 else (fun _ => 0) j) j) j) j) j) j) j) j) j) j) j) j) j) j) j) j) j) j) j) j) j) j) j) j) j) j) j) j) j) j)
abbrev jmFS (q0 q1 q2 q3 q4 q5 q6 q7 q8 q9 q10 q11 q12 q13 q14 q15 q16 q17 q18 q19 q20 q21 q22 q23 q24 q25 q26 q27 q28 q29 q30 : Nat) : List Value := [.int (iz 0), .ref q0, .ref q1, .ref q2, .ref q3, .ref q4, .ref q5, .ref q6, .ref q7, .ref q8, .int (iz 0), .int (iz 0), .int (iz (-1)), .ref q9, .ref q10, .int (iz 0), .int (iz 0), .int (iz 0), .int (iz (-1)), .ref q11, .ref q12, .ref q13, .ref q14, .ref q15, .ref q16, .int (iz 0), .ref q17, .ref q18, .ref q19, .int (iz 0), .ref q20, .int (iz 0), .ref q21, .int (iz 0), .int (iz 0), .int (iz 0), .int (iz 0), .int (iz 0), .int (iz 0), .int (iz 0), .int (iz 0), .ref q22, .ref q23, .ref q24, .ref q25, .int (iz 0), .int (iz 0), .int (iz 0), .int (iz 0), .int (iz 0), .ref q26, .int (iz 0), .int (iz 0), .int (iz 0), .ref q27, .ref q28, .ref q29, .ref q30, .int (iz 0), .int (iz 0), .int (iz 0)]
abbrev jmW (ds : Nat → ClassId) (o q0 q1 q2 q3 q4 q5 q6 q7 q8 q9 q10 q11 q12 q13 q14 q15 q16 q17 q18 q19 q20 q21 q22 q23 q24 q25 q26 q27 q28 q29 q30 : Nat) (fp fd : Int → Int) (tl : va_W) : va_W := ((o, .inr (0, (jmFS q0 q1 q2 q3 q4 q5 q6 q7 q8 q9 q10 q11 q12 q13 q14 q15 q16 q17 q18 q19 q20 q21 q22 q23 q24 q25 q26 q27 q28 q29 q30))) :: jNu (ds 0) q30 3200 (fun _ => 0) :: jNu (ds 0) q29 3200 (fun _ => 0) :: jNu (ds 0) q28 3200 (fun _ => 0) :: jNu (ds 0) q27 3200 (fun _ => 0) :: jNu (ds 0) q26 4 (fun _ => 0) :: jNu (ds 0) q25 26 (fun _ => 0) :: jNu (ds 0) q24 26 (fun _ => 0) :: jNu (ds 0) q23 22407 (fun _ => 0) :: jNu (ds 0) q22 22407 (fun _ => 0) :: jNu (ds 0) q21 4000 (fun _ => 0) :: jNu (ds 0) q20 4000 (fun _ => 0) :: jNu (ds 0) q19 36 (fun _ => 0) :: jNu (ds 0) q18 36 (fun _ => 0) :: jNu (ds 0) q17 1260 (fun _ => 0) :: jNu (ds 0) q16 256 (fun _ => 0) :: jNu (ds 0) q15 70 (fun _ => 0) :: jNu (ds 0) q14 70 (fun _ => 0) :: jNu (ds 0) q13 70 (fun _ => 0) :: jNu (ds 0) q12 2178 (fun _ => 0) :: jNu (ds 1) q11 20736 (fun _ => 0) :: jNu (ds 0) q10 17424 (fun _ => 0) :: jNu (ds 0) q9 17424 (fun _ => 0) :: jNu (ds 0) q8 3200 (fun _ => 0) :: jNu (ds 0) q7 256 fd :: jNu (ds 0) q6 512 fp :: jNu (ds 0) q5 30 jfq5 :: jNu (ds 0) q4 30 jfq4 :: jNu (ds 0) q3 30 jfq3 :: jNu (ds 0) q2 30 jfq2 :: jNu (ds 0) q1 30 jfq1 :: jNu (ds 0) q0 30 jfq0 :: tl)
set_option maxRecDepth 100000 in
theorem jm_efs {o q0 q1 q2 q3 q4 q5 q6 q7 q8 q9 q10 q11 q12 q13 q14 q15 q16 q17 q18 q19 q20 q21 q22 q23 q24 q25 q26 q27 q28 q29 q30 : Nat} {fs1 fs2 fs3 fs4 fs5 fs6 fs7 fs8 fs9 fs10 fs11 fs12 fs13 fs14 fs15 fs16 fs17 fs18 fs19 fs20 fs21 fs22 fs23 fs24 fs25 fs26 fs27 fs28 fs29 fs30 fs31 fs32 fs33 : List Value}
    (e1 : fs1 = ([.int (iz 0), .null, .null, .null, .null, .null, .null, .null, .null, .null, .int (iz 0), .int (iz 0), .int (iz 0), .null, .null, .int (iz 0), .int (iz 0), .int (iz 0), .int (iz 0), .null, .null, .null, .null, .null, .null, .int (iz 0), .null, .null, .null, .int (iz 0), .null, .int (iz 0), .null, .int (iz 0), .int (iz 0), .int (iz 0), .int (iz 0), .int (iz 0), .int (iz 0), .int (iz 0), .int (iz 0), .null, .null, .null, .null, .int (iz 0), .int (iz 0), .int (iz 0), .int (iz 0), .int (iz 0), .null, .int (iz 0), .int (iz 0), .int (iz 0), .null, .null, .null, .null, .int (iz 0), .int (iz 0), .int (iz 0)] : List Value).set 1 (.ref q0))
    (e2 : fs2 = (fs1 : List Value).set 2 (.ref q1))
    (e3 : fs3 = (fs2 : List Value).set 3 (.ref q2))
    (e4 : fs4 = (fs3 : List Value).set 4 (.ref q3))
    (e5 : fs5 = (fs4 : List Value).set 5 (.ref q4))
    (e6 : fs6 = (fs5 : List Value).set 6 (.ref q5))
    (e7 : fs7 = (fs6 : List Value).set 7 (.ref q6))
    (e8 : fs8 = (fs7 : List Value).set 8 (.ref q7))
    (e9 : fs9 = (fs8 : List Value).set 9 (.ref q8))
    (e10 : fs10 = (fs9 : List Value).set 12 (.int (iz (-1))))
    (e11 : fs11 = (fs10 : List Value).set 13 (.ref q9))
    (e12 : fs12 = (fs11 : List Value).set 14 (.ref q10))
    (e13 : fs13 = (fs12 : List Value).set 18 (.int (iz (-1))))
    (e14 : fs14 = (fs13 : List Value).set 19 (.ref q11))
    (e15 : fs15 = (fs14 : List Value).set 20 (.ref q12))
    (e16 : fs16 = (fs15 : List Value).set 21 (.ref q13))
    (e17 : fs17 = (fs16 : List Value).set 22 (.ref q14))
    (e18 : fs18 = (fs17 : List Value).set 23 (.ref q15))
    (e19 : fs19 = (fs18 : List Value).set 24 (.ref q16))
    (e20 : fs20 = (fs19 : List Value).set 26 (.ref q17))
    (e21 : fs21 = (fs20 : List Value).set 27 (.ref q18))
    (e22 : fs22 = (fs21 : List Value).set 28 (.ref q19))
    (e23 : fs23 = (fs22 : List Value).set 30 (.ref q20))
    (e24 : fs24 = (fs23 : List Value).set 32 (.ref q21))
    (e25 : fs25 = (fs24 : List Value).set 41 (.ref q22))
    (e26 : fs26 = (fs25 : List Value).set 42 (.ref q23))
    (e27 : fs27 = (fs26 : List Value).set 43 (.ref q24))
    (e28 : fs28 = (fs27 : List Value).set 44 (.ref q25))
    (e29 : fs29 = (fs28 : List Value).set 50 (.ref q26))
    (e30 : fs30 = (fs29 : List Value).set 54 (.ref q27))
    (e31 : fs31 = (fs30 : List Value).set 55 (.ref q28))
    (e32 : fs32 = (fs31 : List Value).set 56 (.ref q29))
    (e33 : fs33 = (fs32 : List Value).set 57 (.ref q30))
    : fs33 = (jmFS q0 q1 q2 q3 q4 q5 q6 q7 q8 q9 q10 q11 q12 q13 q14 q15 q16 q17 q18 q19 q20 q21 q22 q23 q24 q25 q26 q27 q28 q29 q30) := by
  have h1 : fs1 = [.int (iz 0), .ref q0, .null, .null, .null, .null, .null, .null, .null, .null, .int (iz 0), .int (iz 0), .int (iz 0), .null, .null, .int (iz 0), .int (iz 0), .int (iz 0), .int (iz 0), .null, .null, .null, .null, .null, .null, .int (iz 0), .null, .null, .null, .int (iz 0), .null, .int (iz 0), .null, .int (iz 0), .int (iz 0), .int (iz 0), .int (iz 0), .int (iz 0), .int (iz 0), .int (iz 0), .int (iz 0), .null, .null, .null, .null, .int (iz 0), .int (iz 0), .int (iz 0), .int (iz 0), .int (iz 0), .null, .int (iz 0), .int (iz 0), .int (iz 0), .null, .null, .null, .null, .int (iz 0), .int (iz 0), .int (iz 0)] := by rw [e1]; rfl
  have h2 : fs2 = [.int (iz 0), .ref q0, .ref q1, .null, .null, .null, .null, .null, .null, .null, .int (iz 0), .int (iz 0), .int (iz 0), .null, .null, .int (iz 0), .int (iz 0), .int (iz 0), .int (iz 0), .null, .null, .null, .null, .null, .null, .int (iz 0), .null, .null, .null, .int (iz 0), .null, .int (iz 0), .null, .int (iz 0), .int (iz 0), .int (iz 0), .int (iz 0), .int (iz 0), .int (iz 0), .int (iz 0), .int (iz 0), .null, .null, .null, .null, .int (iz 0), .int (iz 0), .int (iz 0), .int (iz 0), .int (iz 0), .null, .int (iz 0), .int (iz 0), .int (iz 0), .null, .null, .null, .null, .int (iz 0), .int (iz 0), .int (iz 0)] := by rw [e2, h1]; rfl
  have h3 : fs3 = [.int (iz 0), .ref q0, .ref q1, .ref q2, .null, .null, .null, .null, .null, .null, .int (iz 0), .int (iz 0), .int (iz 0), .null, .null, .int (iz 0), .int (iz 0), .int (iz 0), .int (iz 0), .null, .null, .null, .null, .null, .null, .int (iz 0), .null, .null, .null, .int (iz 0), .null, .int (iz 0), .null, .int (iz 0), .int (iz 0), .int (iz 0), .int (iz 0), .int (iz 0), .int (iz 0), .int (iz 0), .int (iz 0), .null, .null, .null, .null, .int (iz 0), .int (iz 0), .int (iz 0), .int (iz 0), .int (iz 0), .null, .int (iz 0), .int (iz 0), .int (iz 0), .null, .null, .null, .null, .int (iz 0), .int (iz 0), .int (iz 0)] := by rw [e3, h2]; rfl
  clear e2 h2
  have h4 : fs4 = [.int (iz 0), .ref q0, .ref q1, .ref q2, .ref q3, .null, .null, .null, .null, .null, .int (iz 0), .int (iz 0), .int (iz 0), .null, .null, .int (iz 0), .int (iz 0), .int (iz 0), .int (iz 0), .null, .null, .null, .null, .null, .null, .int (iz 0), .null, .null, .null, .int (iz 0), .null, .int (iz 0), .null, .int (iz 0), .int (iz 0), .int (iz 0), .int (iz 0), .int (iz 0), .int (iz 0), .int (iz 0), .int (iz 0), .null, .null, .null, .null, .int (iz 0), .int (iz 0), .int (iz 0), .int (iz 0), .int (iz 0), .null, .int (iz 0), .int (iz 0), .int (iz 0), .null, .null, .null, .null, .int (iz 0), .int (iz 0), .int (iz 0)] := by rw [e4, h3]; rfl
  clear e3 h3
  have h5 : fs5 = [.int (iz 0), .ref q0, .ref q1, .ref q2, .ref q3, .ref q4, .null, .null, .null, .null, .int (iz 0), .int (iz 0), .int (iz 0), .null, .null, .int (iz 0), .int (iz 0), .int (iz 0), .int (iz 0), .null, .null, .null, .null, .null, .null, .int (iz 0), .null, .null, .null, .int (iz 0), .null, .int (iz 0), .null, .int (iz 0), .int (iz 0), .int (iz 0), .int (iz 0), .int (iz 0), .int (iz 0), .int (iz 0), .int (iz 0), .null, .null, .null, .null, .int (iz 0), .int (iz 0), .int (iz 0), .int (iz 0), .int (iz 0), .null, .int (iz 0), .int (iz 0), .int (iz 0), .null, .null, .null, .null, .int (iz 0), .int (iz 0), .int (iz 0)] := by rw [e5, h4]; rfl
  clear e4 h4
  have h6 : fs6 = [.int (iz 0), .ref q0, .ref q1, .ref q2, .ref q3, .ref q4, .ref q5, .null, .null, .null, .int (iz 0), .int (iz 0), .int (iz 0), .null, .null, .int (iz 0), .int (iz 0), .int (iz 0), .int (iz 0), .null, .null, .null, .null, .null, .null, .int (iz 0), .null, .null, .null, .int (iz 0), .null, .int (iz 0), .null, .int (iz 0), .int (iz 0), .int (iz 0), .int (iz 0), .int (iz 0), .int (iz 0), .int (iz 0), .int (iz 0), .null, .null, .null, .null, .int (iz 0), .int (iz 0), .int (iz 0), .int (iz 0), .int (iz 0), .null, .int (iz 0), .int (iz 0), .int (iz 0), .null, .null, .null, .null, .int (iz 0), .int (iz 0), .int (iz 0)] := by rw [e6, h5]; rfl
  clear e5 h5
  have h7 : fs7 = [.int (iz 0), .ref q0, .ref q1, .ref q2, .ref q3, .ref q4, .ref q5, .ref q6, .null, .null, .int (iz 0), .int (iz 0), .int (iz 0), .null, .null, .int (iz 0), .int (iz 0), .int (iz 0), .int (iz 0), .null, .null, .null, .null, .null, .null, .int (iz 0), .null, .null, .null, .int (iz 0), .null, .int (iz 0), .null, .int (iz 0), .int (iz 0), .int (iz 0), .int (iz 0), .int (iz 0), .int (iz 0), .int (iz 0), .int (iz 0), .null, .null, .null, .null, .int (iz 0), .int (iz 0), .int (iz 0), .int (iz 0), .int (iz 0), .null, .int (iz 0), .int (iz 0), .int (iz 0), .null, .null, .null, .null, .int (iz 0), .int (iz 0), .int (iz 0)] := by rw [e7, h6]; rfl
  clear e6 h6
  have h8 : fs8 = [.int (iz 0), .ref q0, .ref q1, .ref q2, .ref q3, .ref q4, .ref q5, .ref q6, .ref q7, .null, .int (iz 0), .int (iz 0), .int (iz 0), .null, .null, .int (iz 0), .int (iz 0), .int (iz 0), .int (iz 0), .null, .null, .null, .null, .null, .null, .int (iz 0), .null, .null, .null, .int (iz 0), .null, .int (iz 0), .null, .int (iz 0), .int (iz 0), .int (iz 0), .int (iz 0), .int (iz 0), .int (iz 0), .int (iz 0), .int (iz 0), .null, .null, .null, .null, .int (iz 0), .int (iz 0), .int (iz 0), .int (iz 0), .int (iz 0), .null, .int (iz 0), .int (iz 0), .int (iz 0), .null, .null, .null, .null, .int (iz 0), .int (iz 0), .int (iz 0)] := by rw [e8, h7]; rfl
  clear e7 h7
  have h9 : fs9 = [.int (iz 0), .ref q0, .ref q1, .ref q2, .ref q3, .ref q4, .ref q5, .ref q6, .ref q7, .ref q8, .int (iz 0), .int (iz 0), .int (iz 0), .null, .null, .int (iz 0), .int (iz 0), .int (iz 0), .int (iz 0), .null, .null, .null, .null, .null, .null, .int (iz 0), .null, .null, .null, .int (iz 0), .null, .int (iz 0), .null, .int (iz 0), .int (iz 0), .int (iz 0), .int (iz 0), .int (iz 0), .int (iz 0), .int (iz 0), .int (iz 0), .null, .null, .null, .null, .int (iz 0), .int (iz 0), .int (iz 0), .int (iz 0), .int (iz 0), .null, .int (iz 0), .int (iz 0), .int (iz 0), .null, .null, .null, .null, .int (iz 0), .int (iz 0), .int (iz 0)] := by rw [e9, h8]; rfl
  clear e8 h8
  have h10 : fs10 = [.int (iz 0), .ref q0, .ref q1, .ref q2, .ref q3, .ref q4, .ref q5, .ref q6, .ref q7, .ref q8, .int (iz 0), .int (iz 0), .int (iz (-1)), .null, .null, .int (iz 0), .int (iz 0), .int (iz 0), .int (iz 0), .null, .null, .null, .null, .null, .null, .int (iz 0), .null, .null, .null, .int (iz 0), .null, .int (iz 0), .null, .int (iz 0), .int (iz 0), .int (iz 0), .int (iz 0), .int (iz 0), .int (iz 0), .int (iz 0), .int (iz 0), .null, .null, .null, .null, .int (iz 0), .int (iz 0), .int (iz 0), .int (iz 0), .int (iz 0), .null, .int (iz 0), .int (iz 0), .int (iz 0), .null, .null, .null, .null, .int (iz 0), .int (iz 0), .int (iz 0)] := by rw [e10, h9]; rfl
  clear e9 h9
  have h11 : fs11 = [.int (iz 0), .ref q0, .ref q1, .ref q2, .ref q3, .ref q4, .ref q5, .ref q6, .ref q7, .ref q8, .int (iz 0), .int (iz 0), .int (iz (-1)), .ref q9, .null, .int (iz 0), .int (iz 0), .int (iz 0), .int (iz 0), .null, .null, .null, .null, .null, .null, .int (iz 0), .null, .null, .null, .int (iz 0), .null, .int (iz 0), .null, .int (iz 0), .int (iz 0), .int (iz 0), .int (iz 0), .int (iz 0), .int (iz 0), .int (iz 0), .int (iz 0), .null, .null, .null, .null, .int (iz 0), .int (iz 0), .int (iz 0), .int (iz 0), .int (iz 0), .null, .int (iz 0), .int (iz 0), .int (iz 0), .null, .null, .null, .null, .int (iz 0), .int (iz 0), .int (iz 0)] := by rw [e11, h10]; rfl
  clear e10 h10
  have h12 : fs12 = [.int (iz 0), .ref q0, .ref q1, .ref q2, .ref q3, .ref q4, .ref q5, .ref q6, .ref q7, .ref q8, .int (iz 0), .int (iz 0), .int (iz (-1)), .ref q9, .ref q10, .int (iz 0), .int (iz 0), .int (iz 0), .int (iz 0), .null, .null, .null, .null, .null, .null, .int (iz 0), .null, .null, .null, .int (iz 0), .null, .int (iz 0), .null, .int (iz 0), .int (iz 0), .int (iz 0), .int (iz 0), .int (iz 0), .int (iz 0), .int (iz 0), .int (iz 0), .null, .null, .null, .null, .int (iz 0), .int (iz 0), .int (iz 0), .int (iz 0), .int (iz 0), .null, .int (iz 0), .int (iz 0), .int (iz 0), .null, .null, .null, .null, .int (iz 0), .int (iz 0), .int (iz 0)] := by rw [e12, h11]; rfl
  clear e11 h11
  have h13 : fs13 = [.int (iz 0), .ref q0, .ref q1, .ref q2, .ref q3, .ref q4, .ref q5, .ref q6, .ref q7, .ref q8, .int (iz 0), .int (iz 0), .int (iz (-1)), .ref q9, .ref q10, .int (iz 0), .int (iz 0), .int (iz 0), .int (iz (-1)), .null, .null, .null, .null, .null, .null, .int (iz 0), .null, .null, .null, .int (iz 0), .null, .int (iz 0), .null, .int (iz 0), .int (iz 0), .int (iz 0), .int (iz 0), .int (iz 0), .int (iz 0), .int (iz 0), .int (iz 0), .null, .null, .null, .null, .int (iz 0), .int (iz 0), .int (iz 0), .int (iz 0), .int (iz 0), .null, .int (iz 0), .int (iz 0), .int (iz 0), .null, .null, .null, .null, .int (iz 0), .int (iz 0), .int (iz 0)] := by rw [e13, h12]; rfl
  clear e12 h12
  have h14 : fs14 = [.int (iz 0), .ref q0, .ref q1, .ref q2, .ref q3, .ref q4, .ref q5, .ref q6, .ref q7, .ref q8, .int (iz 0), .int (iz 0), .int (iz (-1)), .ref q9, .ref q10, .int (iz 0), .int (iz 0), .int (iz 0), .int (iz (-1)), .ref q11, .null, .null, .null, .null, .null, .int (iz 0), .null, .null, .null, .int (iz 0), .null, .int (iz 0), .null, .int (iz 0), .int (iz 0), .int (iz 0), .int (iz 0), .int (iz 0), .int (iz 0), .int (iz 0), .int (iz 0), .null, .null, .null, .null, .int (iz 0), .int (iz 0), .int (iz 0), .int (iz 0), .int (iz 0), .null, .int (iz 0), .int (iz 0), .int (iz 0), .null, .null, .null, .null, .int (iz 0), .int (iz 0), .int (iz 0)] := by rw [e14, h13]; rfl
  clear e13 h13
  have h15 : fs15 = [.int (iz 0), .ref q0, .ref q1, .ref q2, .ref q3, .ref q4, .ref q5, .ref q6, .ref q7, .ref q8, .int (iz 0), .int (iz 0), .int (iz (-1)), .ref q9, .ref q10, .int (iz 0), .int (iz 0), .int (iz 0), .int (iz (-1)), .ref q11, .ref q12, .null, .null, .null, .null, .int (iz 0), .null, .null, .null, .int (iz 0), .null, .int (iz 0), .null, .int (iz 0), .int (iz 0), .int (iz 0), .int (iz 0), .int (iz 0), .int (iz 0), .int (iz 0), .int (iz 0), .null, .null, .null, .null, .int (iz 0), .int (iz 0), .int (iz 0), .int (iz 0), .int (iz 0), .null, .int (iz 0), .int (iz 0), .int (iz 0), .null, .null, .null, .null, .int (iz 0), .int (iz 0), .int (iz 0)] := by rw [e15, h14]; rfl
  clear e14 h14
  have h16 : fs16 = [.int (iz 0), .ref q0, .ref q1, .ref q2, .ref q3, .ref q4, .ref q5, .ref q6, .ref q7, .ref q8, .int (iz 0), .int (iz 0), .int (iz (-1)), .ref q9, .ref q10, .int (iz 0), .int (iz 0), .int (iz 0), .int (iz (-1)), .ref q11, .ref q12, .ref q13, .null, .null, .null, .int (iz 0), .null, .null, .null, .int (iz 0), .null, .int (iz 0), .null, .int (iz 0), .int (iz 0), .int (iz 0), .int (iz 0), .int (iz 0), .int (iz 0), .int (iz 0), .int (iz 0), .null, .null, .null, .null, .int (iz 0), .int (iz 0), .int (iz 0), .int (iz 0), .int (iz 0), .null, .int (iz 0), .int (iz 0), .int (iz 0), .null, .null, .null, .null, .int (iz 0), .int (iz 0), .int (iz 0)] := by rw [e16, h15]; rfl
  clear e15 h15
  have h17 : fs17 = [.int (iz 0), .ref q0, .ref q1, .ref q2, .ref q3, .ref q4, .ref q5, .ref q6, .ref q7, .ref q8, .int (iz 0), .int (iz 0), .int (iz (-1)), .ref q9, .ref q10, .int (iz 0), .int (iz 0), .int (iz 0), .int (iz (-1)), .ref q11, .ref q12, .ref q13, .ref q14, .null, .null, .int (iz 0), .null, .null, .null, .int (iz 0), .null, .int (iz 0), .null, .int (iz 0), .int (iz 0), .int (iz 0), .int (iz 0), .int (iz 0), .int (iz 0), .int (iz 0), .int (iz 0), .null, .null, .null, .null, .int (iz 0), .int (iz 0), .int (iz 0), .int (iz 0), .int (iz 0), .null, .int (iz 0), .int (iz 0), .int (iz 0), .null, .null, .null, .null, .int (iz 0), .int (iz 0), .int (iz 0)] := by rw [e17, h16]; rfl
  clear e16 h16
  have h18 : fs18 = [.int (iz 0), .ref q0, .ref q1, .ref q2, .ref q3, .ref q4, .ref q5, .ref q6, .ref q7, .ref q8, .int (iz 0), .int (iz 0), .int (iz (-1)), .ref q9, .ref q10, .int (iz 0), .int (iz 0), .int (iz 0), .int (iz (-1)), .ref q11, .ref q12, .ref q13, .ref q14, .ref q15, .null, .int (iz 0), .null, .null, .null, .int (iz 0), .null, .int (iz 0), .null, .int (iz 0), .int (iz 0), .int (iz 0), .int (iz 0), .int (iz 0), .int (iz 0), .int (iz 0), .int (iz 0), .null, .null, .null, .null, .int (iz 0), .int (iz 0), .int (iz 0), .int (iz 0), .int (iz 0), .null, .int (iz 0), .int (iz 0), .int (iz 0), .null, .null, .null, .null, .int (iz 0), .int (iz 0), .int (iz 0)] := by rw [e18, h17]; rfl
  clear e17 h17
  have h19 : fs19 = [.int (iz 0), .ref q0, .ref q1, .ref q2, .ref q3, .ref q4, .ref q5, .ref q6, .ref q7, .ref q8, .int (iz 0), .int (iz 0), .int (iz (-1)), .ref q9, .ref q10, .int (iz 0), .int (iz 0), .int (iz 0), .int (iz (-1)), .ref q11, .ref q12, .ref q13, .ref q14, .ref q15, .ref q16, .int (iz 0), .null, .null, .null, .int (iz 0), .null, .int (iz 0), .null, .int (iz 0), .int (iz 0), .int (iz 0), .int (iz 0), .int (iz 0), .int (iz 0), .int (iz 0), .int (iz 0), .null, .null, .null, .null, .int (iz 0), .int (iz 0), .int (iz 0), .int (iz 0), .int (iz 0), .null, .int (iz 0), .int (iz 0), .int (iz 0), .null, .null, .null, .null, .int (iz 0), .int (iz 0), .int (iz 0)] := by rw [e19, h18]; rfl
  clear e18 h18
  have h20 : fs20 = [.int (iz 0), .ref q0, .ref q1, .ref q2, .ref q3, .ref q4, .ref q5, .ref q6, .ref q7, .ref q8, .int (iz 0), .int (iz 0), .int (iz (-1)), .ref q9, .ref q10, .int (iz 0), .int (iz 0), .int (iz 0), .int (iz (-1)), .ref q11, .ref q12, .ref q13, .ref q14, .ref q15, .ref q16, .int (iz 0), .ref q17, .null, .null, .int (iz 0), .null, .int (iz 0), .null, .int (iz 0), .int (iz 0), .int (iz 0), .int (iz 0), .int (iz 0), .int (iz 0), .int (iz 0), .int (iz 0), .null, .null, .null, .null, .int (iz 0), .int (iz 0), .int (iz 0), .int (iz 0), .int (iz 0), .null, .int (iz 0), .int (iz 0), .int (iz 0), .null, .null, .null, .null, .int (iz 0), .int (iz 0), .int (iz 0)] := by rw [e20, h19]; rfl
  clear e19 h19
  have h21 : fs21 = [.int (iz 0), .ref q0, .ref q1, .ref q2, .ref q3, .ref q4, .ref q5, .ref q6, .ref q7, .ref q8, .int (iz 0), .int (iz 0), .int (iz (-1)), .ref q9, .ref q10, .int (iz 0), .int (iz 0), .int (iz 0), .int (iz (-1)), .ref q11, .ref q12, .ref q13, .ref q14, .ref q15, .ref q16, .int (iz 0), .ref q17, .ref q18, .null, .int (iz 0), .null, .int (iz 0), .null, .int (iz 0), .int (iz 0), .int (iz 0), .int (iz 0), .int (iz 0), .int (iz 0), .int (iz 0), .int (iz 0), .null, .null, .null, .null, .int (iz 0), .int (iz 0), .int (iz 0), .int (iz 0), .int (iz 0), .null, .int (iz 0), .int (iz 0), .int (iz 0), .null, .null, .null, .null, .int (iz 0), .int (iz 0), .int (iz 0)] := by rw [e21, h20]; rfl
  clear e20 h20
  have h22 : fs22 = [.int (iz 0), .ref q0, .ref q1, .ref q2, .ref q3, .ref q4, .ref q5, .ref q6, .ref q7, .ref q8, .int (iz 0), .int (iz 0), .int (iz (-1)), .ref q9, .ref q10, .int (iz 0), .int (iz 0), .int (iz 0), .int (iz (-1)), .ref q11, .ref q12, .ref q13, .ref q14, .ref q15, .ref q16, .int (iz 0), .ref q17, .ref q18, .ref q19, .int (iz 0), .null, .int (iz 0), .null, .int (iz 0), .int (iz 0), .int (iz 0), .int (iz 0), .int (iz 0), .int (iz 0), .int (iz 0), .int (iz 0), .null, .null, .null, .null, .int (iz 0), .int (iz 0), .int (iz 0), .int (iz 0), .int (iz 0), .null, .int (iz 0), .int (iz 0), .int (iz 0), .null, .null, .null, .null, .int (iz 0), .int (iz 0), .int (iz 0)] := by rw [e22, h21]; rfl
  clear e21 h21
  have h23 : fs23 = [.int (iz 0), .ref q0, .ref q1, .ref q2, .ref q3, .ref q4, .ref q5, .ref q6, .ref q7, .ref q8, .int (iz 0), .int (iz 0), .int (iz (-1)), .ref q9, .ref q10, .int (iz 0), .int (iz 0), .int (iz 0), .int (iz (-1)), .ref q11, .ref q12, .ref q13, .ref q14, .ref q15, .ref q16, .int (iz 0), .ref q17, .ref q18, .ref q19, .int (iz 0), .ref q20, .int (iz 0), .null, .int (iz 0), .int (iz 0), .int (iz 0), .int (iz 0), .int (iz 0), .int (iz 0), .int (iz 0), .int (iz 0), .null, .null, .null, .null, .int (iz 0), .int (iz 0), .int (iz 0), .int (iz 0), .int (iz 0), .null, .int (iz 0), .int (iz 0), .int (iz 0), .null, .null, .null, .null, .int (iz 0), .int (iz 0), .int (iz 0)] := by rw [e23, h22]; rfl
  clear e22 h22
  have h24 : fs24 = [.int (iz 0), .ref q0, .ref q1, .ref q2, .ref q3, .ref q4, .ref q5, .ref q6, .ref q7, .ref q8, .int (iz 0), .int (iz 0), .int (iz (-1)), .ref q9, .ref q10, .int (iz 0), .int (iz 0), .int (iz 0), .int (iz (-1)), .ref q11, .ref q12, .ref q13, .ref q14, .ref q15, .ref q16, .int (iz 0), .ref q17, .ref q18, .ref q19, .int (iz 0), .ref q20, .int (iz 0), .ref q21, .int (iz 0), .int (iz 0), .int (iz 0), .int (iz 0), .int (iz 0), .int (iz 0), .int (iz 0), .int (iz 0), .null, .null, .null, .null, .int (iz 0), .int (iz 0), .int (iz 0), .int (iz 0), .int (iz 0), .null, .int (iz 0), .int (iz 0), .int (iz 0), .null, .null, .null, .null, .int (iz 0), .int (iz 0), .int (iz 0)] := by rw [e24, h23]; rfl
  clear e23 h23
  have h25 : fs25 = [.int (iz 0), .ref q0, .ref q1, .ref q2, .ref q3, .ref q4, .ref q5, .ref q6, .ref q7, .ref q8, .int (iz 0), .int (iz 0), .int (iz (-1)), .ref q9, .ref q10, .int (iz 0), .int (iz 0), .int (iz 0), .int (iz (-1)), .ref q11, .ref q12, .ref q13, .ref q14, .ref q15, .ref q16, .int (iz 0), .ref q17, .ref q18, .ref q19, .int (iz 0), .ref q20, .int (iz 0), .ref q21, .int (iz 0), .int (iz 0), .int (iz 0), .int (iz 0), .int (iz 0), .int (iz 0), .int (iz 0), .int (iz 0), .ref q22, .null, .null, .null, .int (iz 0), .int (iz 0), .int (iz 0), .int (iz 0), .int (iz 0), .null, .int (iz 0), .int (iz 0), .int (iz 0), .null, .null, .null, .null, .int (iz 0), .int (iz 0), .int (iz 0)] := by rw [e25, h24]; rfl
  clear e24 h24
  have h26 : fs26 = [.int (iz 0), .ref q0, .ref q1, .ref q2, .ref q3, .ref q4, .ref q5, .ref q6, .ref q7, .ref q8, .int (iz 0), .int (iz 0), .int (iz (-1)), .ref q9, .ref q10, .int (iz 0), .int (iz 0), .int (iz 0), .int (iz (-1)), .ref q11, .ref q12, .ref q13, .ref q14, .ref q15, .ref q16, .int (iz 0), .ref q17, .ref q18, .ref q19, .int (iz 0), .ref q20, .int (iz 0), .ref q21, .int (iz 0), .int (iz 0), .int (iz 0), .int (iz 0), .int (iz 0), .int (iz 0), .int (iz 0), .int (iz 0), .ref q22, .ref q23, .null, .null, .int (iz 0), .int (iz 0), .int (iz 0), .int (iz 0), .int (iz 0), .null, .int (iz 0), .int (iz 0), .int (iz 0), .null, .null, .null, .null, .int (iz 0), .int (iz 0), .int (iz 0)] := by rw [e26, h25]; rfl
  clear e25 h25
  have h27 : fs27 = [.int (iz 0), .ref q0, .ref q1, .ref q2, .ref q3, .ref q4, .ref q5, .ref q6, .ref q7, .ref q8, .int (iz 0), .int (iz 0), .int (iz (-1)), .ref q9, .ref q10, .int (iz 0), .int (iz 0), .int (iz 0), .int (iz (-1)), .ref q11, .ref q12, .ref q13, .ref q14, .ref q15, .ref q16, .int (iz 0), .ref q17, .ref q18, .ref q19, .int (iz 0), .ref q20, .int (iz 0), .ref q21, .int (iz 0), .int (iz 0), .int (iz 0), .int (iz 0), .int (iz 0), .int (iz 0), .int (iz 0), .int (iz 0), .ref q22, .ref q23, .ref q24, .null, .int (iz 0), .int (iz 0), .int (iz 0), .int (iz 0), .int (iz 0), .null, .int (iz 0), .int (iz 0), .int (iz 0), .null, .null, .null, .null, .int (iz 0), .int (iz 0), .int (iz 0)] := by rw [e27, h26]; rfl
  clear e26 h26
  have h28 : fs28 = [.int (iz 0), .ref q0, .ref q1, .ref q2, .ref q3, .ref q4, .ref q5, .ref q6, .ref q7, .ref q8, .int (iz 0), .int (iz 0), .int (iz (-1)), .ref q9, .ref q10, .int (iz 0), .int (iz 0), .int (iz 0), .int (iz (-1)), .ref q11, .ref q12, .ref q13, .ref q14, .ref q15, .ref q16, .int (iz 0), .ref q17, .ref q18, .ref q19, .int (iz 0), .ref q20, .int (iz 0), .ref q21, .int (iz 0), .int (iz 0), .int (iz 0), .int (iz 0), .int (iz 0), .int (iz 0), .int (iz 0), .int (iz 0), .ref q22, .ref q23, .ref q24, .ref q25, .int (iz 0), .int (iz 0), .int (iz 0), .int (iz 0), .int (iz 0), .null, .int (iz 0), .int (iz 0), .int (iz 0), .null, .null, .null, .null, .int (iz 0), .int (iz 0), .int (iz 0)] := by rw [e28, h27]; rfl
  clear e27 h27
  have h29 : fs29 = [.int (iz 0), .ref q0, .ref q1, .ref q2, .ref q3, .ref q4, .ref q5, .ref q6, .ref q7, .ref q8, .int (iz 0), .int (iz 0), .int (iz (-1)), .ref q9, .ref q10, .int (iz 0), .int (iz 0), .int (iz 0), .int (iz (-1)), .ref q11, .ref q12, .ref q13, .ref q14, .ref q15, .ref q16, .int (iz 0), .ref q17, .ref q18, .ref q19, .int (iz 0), .ref q20, .int (iz 0), .ref q21, .int (iz 0), .int (iz 0), .int (iz 0), .int (iz 0), .int (iz 0), .int (iz 0), .int (iz 0), .int (iz 0), .ref q22, .ref q23, .ref q24, .ref q25, .int (iz 0), .int (iz 0), .int (iz 0), .int (iz 0), .int (iz 0), .ref q26, .int (iz 0), .int (iz 0), .int (iz 0), .null, .null, .null, .null, .int (iz 0), .int (iz 0), .int (iz 0)] := by rw [e29, h28]; rfl
  clear e28 h28
  have h30 : fs30 = [.int (iz 0), .ref q0, .ref q1, .ref q2, .ref q3, .ref q4, .ref q5, .ref q6, .ref q7, .ref q8, .int (iz 0), .int (iz 0), .int (iz (-1)), .ref q9, .ref q10, .int (iz 0), .int (iz 0), .int (iz 0), .int (iz (-1)), .ref q11, .ref q12, .ref q13, .ref q14, .ref q15, .ref q16, .int (iz 0), .ref q17, .ref q18, .ref q19, .int (iz 0), .ref q20, .int (iz 0), .ref q21, .int (iz 0), .int (iz 0), .int (iz 0), .int (iz 0), .int (iz 0), .int (iz 0), .int (iz 0), .int (iz 0), .ref q22, .ref q23, .ref q24, .ref q25, .int (iz 0), .int (iz 0), .int (iz 0), .int (iz 0), .int (iz 0), .ref q26, .int (iz 0), .int (iz 0), .int (iz 0), .ref q27, .null, .null, .null, .int (iz 0), .int (iz 0), .int (iz 0)] := by rw [e30, h29]; rfl
  clear e29 h29
  have h31 : fs31 = [.int (iz 0), .ref q0, .ref q1, .ref q2, .ref q3, .ref q4, .ref q5, .ref q6, .ref q7, .ref q8, .int (iz 0), .int (iz 0), .int (iz (-1)), .ref q9, .ref q10, .int (iz 0), .int (iz 0), .int (iz 0), .int (iz (-1)), .ref q11, .ref q12, .ref q13, .ref q14, .ref q15, .ref q16, .int (iz 0), .ref q17, .ref q18, .ref q19, .int (iz 0), .ref q20, .int (iz 0), .ref q21, .int (iz 0), .int (iz 0), .int (iz 0), .int (iz 0), .int (iz 0), .int (iz 0), .int (iz 0), .int (iz 0), .ref q22, .ref q23, .ref q24, .ref q25, .int (iz 0), .int (iz 0), .int (iz 0), .int (iz 0), .int (iz 0), .ref q26, .int (iz 0), .int (iz 0), .int (iz 0), .ref q27, .ref q28, .null, .null, .int (iz 0), .int (iz 0), .int (iz 0)] := by rw [e31, h30]; rfl
  clear e30 h30
  have h32 : fs32 = [.int (iz 0), .ref q0, .ref q1, .ref q2, .ref q3, .ref q4, .ref q5, .ref q6, .ref q7, .ref q8, .int (iz 0), .int (iz 0), .int (iz (-1)), .ref q9, .ref q10, .int (iz 0), .int (iz 0), .int (iz 0), .int (iz (-1)), .ref q11, .ref q12, .ref q13, .ref q14, .ref q15, .ref q16, .int (iz 0), .ref q17, .ref q18, .ref q19, .int (iz 0), .ref q20, .int (iz 0), .ref q21, .int (iz 0), .int (iz 0), .int (iz 0), .int (iz 0), .int (iz 0), .int (iz 0), .int (iz 0), .int (iz 0), .ref q22, .ref q23, .ref q24, .ref q25, .int (iz 0), .int (iz 0), .int (iz 0), .int (iz 0), .int (iz 0), .ref q26, .int (iz 0), .int (iz 0), .int (iz 0), .ref q27, .ref q28, .ref q29, .null, .int (iz 0), .int (iz 0), .int (iz 0)] := by rw [e32, h31]; rfl
  clear e31 h31
  have h33 : fs33 = [.int (iz 0), .ref q0, .ref q1, .ref q2, .ref q3, .ref q4, .ref q5, .ref q6, .ref q7, .ref q8, .int (iz 0), .int (iz 0), .int (iz (-1)), .ref q9, .ref q10, .int (iz 0), .int (iz 0), .int (iz 0), .int (iz (-1)), .ref q11, .ref q12, .ref q13, .ref q14, .ref q15, .ref q16, .int (iz 0), .ref q17, .ref q18, .ref q19, .int (iz 0), .ref q20, .int (iz 0), .ref q21, .int (iz 0), .int (iz 0), .int (iz 0), .int (iz 0), .int (iz 0), .int (iz 0), .int (iz 0), .int (iz 0), .ref q22, .ref q23, .ref q24, .ref q25, .int (iz 0), .int (iz 0), .int (iz 0), .int (iz 0), .int (iz 0), .ref q26, .int (iz 0), .int (iz 0), .int (iz 0), .ref q27, .ref q28, .ref q29, .ref q30, .int (iz 0), .int (iz 0), .int (iz 0)] := by rw [e33, h32]; rfl
  clear e32 h32
  exact h33
set_option maxRecDepth 100000 in
theorem ji_X13_init {l : Launch} {Θ : ZTh} {ds : Nat → ClassId} {δ : Nat × Nat} {σ : ZS} {tl : va_W} (hc0 : (zt_cl Θ)[0]? = some (RX13, TX13, 61)) (hY : zt_ty Θ = ty6 ds) (o : Nat) : ZDV l (zR Θ) (ds 5) δ yX13_init cX13_init 3 1 30 31 129378 [.ref o] σ ((o, .inr (0, [.int (iz 0), .null, .null, .null, .null, .null, .null, .null, .null, .null, .int (iz 0), .int (iz 0), .int (iz 0), .null, .null, .int (iz 0), .int (iz 0), .int (iz 0), .int (iz 0), .null, .null, .null, .null, .null, .null, .int (iz 0), .null, .null, .null, .int (iz 0), .null, .int (iz 0), .null, .int (iz 0), .int (iz 0), .int (iz 0), .int (iz 0), .int (iz 0), .int (iz 0), .int (iz 0), .int (iz 0), .null, .null, .null, .null, .int (iz 0), .int (iz 0), .int (iz 0), .int (iz 0), .int (iz 0), .null, .int (iz 0), .int (iz 0), .int (iz 0), .null, .null, .null, .null, .int (iz 0), .int (iz 0), .int (iz 0)])) :: tl) (fun _ ys => ∃ q0 q1 q2 q3 q4 q5 q6 q7 q8 q9 q10 q11 q12 q13 q14 q15 q16 q17 q18 q19 q20 q21 q22 q23 q24 q25 q26 q27 q28 q29 q30 : Nat, ys = (jmW ds o q0 q1 q2 q3 q4 q5 q6 q7 q8 q9 q10 q11 q12 q13 q14 q15 q16 q17 q18 q19 q20 q21 q22 q23 q24 q25 q26 q27 q28 q29 q30 (pwP 510) (pwD 510) tl)) := by
  refine ZDV.ofI (by decide) (Nat.le_of_ble_eq_true rfl) (fun Γ X K E hn R => ?_)
  have hc0 : (zt_cl (zR Θ))[0]? = some (RX13, TX13, 61) := hc0
  have hY : zt_ty (zR Θ) = ty6 ds := hY
  have ht0 : (zt_ty (zR Θ))[0]? = some (ds 0, .int) := by rw [hY]; rfl
  have ht1 : (zt_ty (zR Θ))[1]? = some (ds 1, .boolean) := by rw [hY]; rfl
  have l0 : ([.int (iz 0), .null, .null, .null, .null, .null, .null, .null, .null, .null, .int (iz 0), .int (iz 0), .int (iz 0), .null, .null, .int (iz 0), .int (iz 0), .int (iz 0), .int (iz 0), .null, .null, .null, .null, .null, .null, .int (iz 0), .null, .null, .null, .int (iz 0), .null, .int (iz 0), .null, .int (iz 0), .int (iz 0), .int (iz 0), .int (iz 0), .int (iz 0), .int (iz 0), .int (iz 0), .int (iz 0), .null, .null, .null, .null, .int (iz 0), .int (iz 0), .int (iz 0), .int (iz 0), .int (iz 0), .null, .int (iz 0), .int (iz 0), .int (iz 0), .null, .null, .null, .null, .int (iz 0), .int (iz 0), .int (iz 0)] : List Value).length = 61 := rfl
  refine z_aload_n X 0 dX13_init_0 rfl ?_
  refine z_objInit X q1199 (Nat.le_of_ble_eq_true rfl) (Nat.le_of_ble_eq_true rfl) dX13_init_1 ?_
  refine z_aload_n X 0 dX13_init_4 rfl ?_
  refine z_bipush X 30 dX13_init_5 rfl ?_
  refine zx_newI (t0 := 0) (N' := 30) X K ht0 rfl (by decide) ⟨by omega, by omega⟩ dX13_init_7 (fun q0 => ?_)
  refine z_dup X dX13_init_9 rfl ?_
  refine z_iconst X 0 dX13_init_10 ?_
  refine z_bipush X 10 dX13_init_11 rfl ?_
  refine zx_ast0 X K 0 ht0 rfl rfl rfl dX13_init_13 ?_
  refine z_dup X dX13_init_14 rfl ?_
  refine z_iconst X 1 dX13_init_15 ?_
  refine z_bipush X 12 dX13_init_16 rfl ?_
  refine zx_ast0 X K 0 ht0 rfl rfl rfl dX13_init_18 ?_
  refine z_dup X dX13_init_19 rfl ?_
  refine z_iconst X 2 dX13_init_20 ?_
  refine z_bipush X 14 dX13_init_21 rfl ?_
  refine zx_ast0 X K 0 ht0 rfl rfl rfl dX13_init_23 ?_
  refine z_dup X dX13_init_24 rfl ?_
  refine z_iconst X 3 dX13_init_25 ?_
  refine z_bipush X 16 dX13_init_26 rfl ?_
  refine zx_ast0 X K 0 ht0 rfl rfl rfl dX13_init_28 ?_
  refine z_dup X dX13_init_29 rfl ?_
  refine z_iconst X 4 dX13_init_30 ?_
  refine z_bipush X 18 dX13_init_31 rfl ?_
  refine zx_ast0 X K 0 ht0 rfl rfl rfl dX13_init_33 ?_
  refine z_dup X dX13_init_34 rfl ?_
  refine z_iconst X 5 dX13_init_35 ?_
  refine z_bipush X 20 dX13_init_36 rfl ?_
  refine zx_ast0 X K 0 ht0 rfl rfl rfl dX13_init_38 ?_
  refine z_dup X dX13_init_39 rfl ?_
  refine z_bipush X 6 dX13_init_40 rfl ?_
  refine z_bipush X 22 dX13_init_42 rfl ?_
  refine zx_ast0 X K 0 ht0 rfl rfl rfl dX13_init_44 ?_
  refine z_dup X dX13_init_45 rfl ?_
  refine z_bipush X 7 dX13_init_46 rfl ?_
  refine z_bipush X 24 dX13_init_48 rfl ?_
  refine zx_ast0 X K 0 ht0 rfl rfl rfl dX13_init_50 ?_
  refine z_dup X dX13_init_51 rfl ?_
  refine z_bipush X 8 dX13_init_52 rfl ?_
  refine z_bipush X 26 dX13_init_54 rfl ?_
  refine zx_ast0 X K 0 ht0 rfl rfl rfl dX13_init_56 ?_
  refine z_dup X dX13_init_57 rfl ?_
  refine z_bipush X 9 dX13_init_58 rfl ?_
  refine z_bipush X 32 dX13_init_60 rfl ?_
  refine zx_ast0 X K 0 ht0 rfl rfl rfl dX13_init_62 ?_
  refine z_dup X dX13_init_63 rfl ?_
  refine z_bipush X 10 dX13_init_64 rfl ?_
  refine z_bipush X 36 dX13_init_66 rfl ?_
  refine zx_ast0 X K 0 ht0 rfl rfl rfl dX13_init_68 ?_
  refine z_dup X dX13_init_69 rfl ?_
  refine z_bipush X 11 dX13_init_70 rfl ?_
  refine z_bipush X 40 dX13_init_72 rfl ?_
  refine zx_ast0 X K 0 ht0 rfl rfl rfl dX13_init_74 ?_
  refine z_dup X dX13_init_75 rfl ?_
  refine z_bipush X 12 dX13_init_76 rfl ?_
  refine z_bipush X 44 dX13_init_78 rfl ?_
  refine zx_ast0 X K 0 ht0 rfl rfl rfl dX13_init_80 ?_
  refine z_dup X dX13_init_81 rfl ?_
  refine z_bipush X 13 dX13_init_82 rfl ?_
  refine z_bipush X 48 dX13_init_84 rfl ?_
  refine zx_ast0 X K 0 ht0 rfl rfl rfl dX13_init_86 ?_
  refine z_dup X dX13_init_87 rfl ?_
  refine z_bipush X 14 dX13_init_88 rfl ?_
  refine z_bipush X 52 dX13_init_90 rfl ?_
  refine zx_ast0 X K 0 ht0 rfl rfl rfl dX13_init_92 ?_
  refine z_dup X dX13_init_93 rfl ?_
  refine z_bipush X 15 dX13_init_94 rfl ?_
  refine z_bipush X 64 dX13_init_96 rfl ?_
  refine zx_ast0 X K 0 ht0 rfl rfl rfl dX13_init_98 ?_
  refine z_dup X dX13_init_99 rfl ?_
  refine z_bipush X 16 dX13_init_100 rfl ?_
  refine z_bipush X 72 dX13_init_102 rfl ?_
  refine zx_ast0 X K 0 ht0 rfl rfl rfl dX13_init_104 ?_
  refine z_dup X dX13_init_105 rfl ?_
  refine z_bipush X 17 dX13_init_106 rfl ?_
  refine z_bipush X 80 dX13_init_108 rfl ?_
  refine zx_ast0 X K 0 ht0 rfl rfl rfl dX13_init_110 ?_
  refine z_dup X dX13_init_111 rfl ?_
  refine z_bipush X 18 dX13_init_112 rfl ?_
  refine z_bipush X 88 dX13_init_114 rfl ?_
  refine zx_ast0 X K 0 ht0 rfl rfl rfl dX13_init_116 ?_
  refine z_dup X dX13_init_117 rfl ?_
  refine z_bipush X 19 dX13_init_118 rfl ?_
  refine z_bipush X 96 dX13_init_120 rfl ?_
  refine zx_ast0 X K 0 ht0 rfl rfl rfl dX13_init_122 ?_
  refine z_dup X dX13_init_123 rfl ?_
  refine z_bipush X 20 dX13_init_124 rfl ?_
  refine z_bipush X 104 dX13_init_126 rfl ?_
  refine zx_ast0 X K 0 ht0 rfl rfl rfl dX13_init_128 ?_
  refine z_dup X dX13_init_129 rfl ?_
  refine z_bipush X 21 dX13_init_130 rfl ?_
  refine z_bipush X 120 dX13_init_132 rfl ?_
  refine zx_ast0 X K 0 ht0 rfl rfl rfl dX13_init_134 ?_
  refine z_dup X dX13_init_135 rfl ?_
  refine z_bipush X 22 dX13_init_136 rfl ?_
  refine z_sipush X 132 dX13_init_138 rfl ?_
  refine zx_ast0 X K 0 ht0 rfl rfl rfl dX13_init_141 ?_
  refine z_dup X dX13_init_142 rfl ?_
  refine z_bipush X 23 dX13_init_143 rfl ?_
  refine z_sipush X 144 dX13_init_145 rfl ?_
  refine zx_ast0 X K 0 ht0 rfl rfl rfl dX13_init_148 ?_
  refine z_dup X dX13_init_149 rfl ?_
  refine z_bipush X 24 dX13_init_150 rfl ?_
  refine z_bipush X 8 dX13_init_152 rfl ?_
  refine zx_ast0 X K 0 ht0 rfl rfl rfl dX13_init_154 ?_
  refine z_dup X dX13_init_155 rfl ?_
  refine z_bipush X 25 dX13_init_156 rfl ?_
  refine z_bipush X 8 dX13_init_158 rfl ?_
  refine zx_ast0 X K 0 ht0 rfl rfl rfl dX13_init_160 ?_
  refine z_dup X dX13_init_161 rfl ?_
  refine z_bipush X 26 dX13_init_162 rfl ?_
  refine z_bipush X 12 dX13_init_164 rfl ?_
  refine zx_ast0 X K 0 ht0 rfl rfl rfl dX13_init_166 ?_
  refine z_dup X dX13_init_167 rfl ?_
  refine z_bipush X 27 dX13_init_168 rfl ?_
  refine z_bipush X 12 dX13_init_170 rfl ?_
  refine zx_ast0 X K 0 ht0 rfl rfl rfl dX13_init_172 ?_
  refine z_dup X dX13_init_173 rfl ?_
  refine z_bipush X 28 dX13_init_174 rfl ?_
  refine z_bipush X 16 dX13_init_176 rfl ?_
  refine zx_ast0 X K 0 ht0 rfl rfl rfl dX13_init_178 ?_
  refine z_dup X dX13_init_179 rfl ?_
  refine z_bipush X 29 dX13_init_180 rfl ?_
  refine z_bipush X 16 dX13_init_182 rfl ?_
  refine zx_ast0 X K 0 ht0 rfl rfl rfl dX13_init_184 ?_
  refine zx_putSF (C := RX13) (T := TX13) (ref := RX13) (ty := .array .int) X K in_X13 tyX13 tyX13_ok nmX13 hc0 1 (by decide) q1201 (fun _ h => h) rfl hn rfl (by decide +kernel) rfl rfl l0 dX13_init_185 (fun fs1 e1 l1 => ?_)
  refine z_aload_n X 0 dX13_init_188 rfl ?_
  refine z_bipush X 30 dX13_init_189 rfl ?_
  refine zx_newI (t0 := 0) (N' := 30) X K ht0 rfl (by decide) ⟨by omega, by omega⟩ dX13_init_191 (fun q1 => ?_)
  refine z_dup X dX13_init_193 rfl ?_
  refine z_iconst X 0 dX13_init_194 ?_
  refine z_bipush X 10 dX13_init_195 rfl ?_
  refine zx_ast0 X K 0 ht0 rfl rfl rfl dX13_init_197 ?_
  refine z_dup X dX13_init_198 rfl ?_
  refine z_iconst X 1 dX13_init_199 ?_
  refine z_bipush X 12 dX13_init_200 rfl ?_
  refine zx_ast0 X K 0 ht0 rfl rfl rfl dX13_init_202 ?_
  refine z_dup X dX13_init_203 rfl ?_
  refine z_iconst X 2 dX13_init_204 ?_
  refine z_bipush X 14 dX13_init_205 rfl ?_
  refine zx_ast0 X K 0 ht0 rfl rfl rfl dX13_init_207 ?_
  refine z_dup X dX13_init_208 rfl ?_
  refine z_iconst X 3 dX13_init_209 ?_
  refine z_bipush X 16 dX13_init_210 rfl ?_
  refine zx_ast0 X K 0 ht0 rfl rfl rfl dX13_init_212 ?_
  refine z_dup X dX13_init_213 rfl ?_
  refine z_iconst X 4 dX13_init_214 ?_
  refine z_bipush X 18 dX13_init_215 rfl ?_
  refine zx_ast0 X K 0 ht0 rfl rfl rfl dX13_init_217 ?_
  refine z_dup X dX13_init_218 rfl ?_
  refine z_iconst X 5 dX13_init_219 ?_
  refine z_bipush X 20 dX13_init_220 rfl ?_
  refine zx_ast0 X K 0 ht0 rfl rfl rfl dX13_init_222 ?_
  refine z_dup X dX13_init_223 rfl ?_
  refine z_bipush X 6 dX13_init_224 rfl ?_
  refine z_bipush X 22 dX13_init_226 rfl ?_
  refine zx_ast0 X K 0 ht0 rfl rfl rfl dX13_init_228 ?_
  refine z_dup X dX13_init_229 rfl ?_
  refine z_bipush X 7 dX13_init_230 rfl ?_
  refine z_bipush X 24 dX13_init_232 rfl ?_
  refine zx_ast0 X K 0 ht0 rfl rfl rfl dX13_init_234 ?_
  refine z_dup X dX13_init_235 rfl ?_
  refine z_bipush X 8 dX13_init_236 rfl ?_
  refine z_bipush X 26 dX13_init_238 rfl ?_
  refine zx_ast0 X K 0 ht0 rfl rfl rfl dX13_init_240 ?_
  refine z_dup X dX13_init_241 rfl ?_
  refine z_bipush X 9 dX13_init_242 rfl ?_
  refine z_bipush X 32 dX13_init_244 rfl ?_
  refine zx_ast0 X K 0 ht0 rfl rfl rfl dX13_init_246 ?_
  refine z_dup X dX13_init_247 rfl ?_
  refine z_bipush X 10 dX13_init_248 rfl ?_
  refine z_bipush X 36 dX13_init_250 rfl ?_
  refine zx_ast0 X K 0 ht0 rfl rfl rfl dX13_init_252 ?_
  refine z_dup X dX13_init_253 rfl ?_
  refine z_bipush X 11 dX13_init_254 rfl ?_
  refine z_bipush X 40 dX13_init_256 rfl ?_
  refine zx_ast0 X K 0 ht0 rfl rfl rfl dX13_init_258 ?_
  refine z_dup X dX13_init_259 rfl ?_
  refine z_bipush X 12 dX13_init_260 rfl ?_
  refine z_bipush X 44 dX13_init_262 rfl ?_
  refine zx_ast0 X K 0 ht0 rfl rfl rfl dX13_init_264 ?_
  refine z_dup X dX13_init_265 rfl ?_
  refine z_bipush X 13 dX13_init_266 rfl ?_
  refine z_bipush X 48 dX13_init_268 rfl ?_
  refine zx_ast0 X K 0 ht0 rfl rfl rfl dX13_init_270 ?_
  refine z_dup X dX13_init_271 rfl ?_
  refine z_bipush X 14 dX13_init_272 rfl ?_
  refine z_bipush X 52 dX13_init_274 rfl ?_
  refine zx_ast0 X K 0 ht0 rfl rfl rfl dX13_init_276 ?_
  refine z_dup X dX13_init_277 rfl ?_
  refine z_bipush X 15 dX13_init_278 rfl ?_
  refine z_bipush X 64 dX13_init_280 rfl ?_
  refine zx_ast0 X K 0 ht0 rfl rfl rfl dX13_init_282 ?_
  refine z_dup X dX13_init_283 rfl ?_
  refine z_bipush X 16 dX13_init_284 rfl ?_
  refine z_bipush X 72 dX13_init_286 rfl ?_
  refine zx_ast0 X K 0 ht0 rfl rfl rfl dX13_init_288 ?_
  refine z_dup X dX13_init_289 rfl ?_
  refine z_bipush X 17 dX13_init_290 rfl ?_
  refine z_bipush X 80 dX13_init_292 rfl ?_
  refine zx_ast0 X K 0 ht0 rfl rfl rfl dX13_init_294 ?_
  refine z_dup X dX13_init_295 rfl ?_
  refine z_bipush X 18 dX13_init_296 rfl ?_
  refine z_bipush X 88 dX13_init_298 rfl ?_
  refine zx_ast0 X K 0 ht0 rfl rfl rfl dX13_init_300 ?_
  refine z_dup X dX13_init_301 rfl ?_
  refine z_bipush X 19 dX13_init_302 rfl ?_
  refine z_bipush X 96 dX13_init_304 rfl ?_
  refine zx_ast0 X K 0 ht0 rfl rfl rfl dX13_init_306 ?_
  refine z_dup X dX13_init_307 rfl ?_
  refine z_bipush X 20 dX13_init_308 rfl ?_
  refine z_bipush X 104 dX13_init_310 rfl ?_
  refine zx_ast0 X K 0 ht0 rfl rfl rfl dX13_init_312 ?_
  refine z_dup X dX13_init_313 rfl ?_
  refine z_bipush X 21 dX13_init_314 rfl ?_
  refine z_bipush X 120 dX13_init_316 rfl ?_
  refine zx_ast0 X K 0 ht0 rfl rfl rfl dX13_init_318 ?_
  refine z_dup X dX13_init_319 rfl ?_
  refine z_bipush X 22 dX13_init_320 rfl ?_
  refine z_sipush X 132 dX13_init_322 rfl ?_
  refine zx_ast0 X K 0 ht0 rfl rfl rfl dX13_init_325 ?_
  refine z_dup X dX13_init_326 rfl ?_
  refine z_bipush X 23 dX13_init_327 rfl ?_
  refine z_sipush X 144 dX13_init_329 rfl ?_
  refine zx_ast0 X K 0 ht0 rfl rfl rfl dX13_init_332 ?_
  refine z_dup X dX13_init_333 rfl ?_
  refine z_bipush X 24 dX13_init_334 rfl ?_
  refine z_bipush X 18 dX13_init_336 rfl ?_
  refine zx_ast0 X K 0 ht0 rfl rfl rfl dX13_init_338 ?_
  refine z_dup X dX13_init_339 rfl ?_
  refine z_bipush X 25 dX13_init_340 rfl ?_
  refine z_bipush X 32 dX13_init_342 rfl ?_
  refine zx_ast0 X K 0 ht0 rfl rfl rfl dX13_init_344 ?_
  refine z_dup X dX13_init_345 rfl ?_
  refine z_bipush X 26 dX13_init_346 rfl ?_
  refine z_bipush X 26 dX13_init_348 rfl ?_
  refine zx_ast0 X K 0 ht0 rfl rfl rfl dX13_init_350 ?_
  refine z_dup X dX13_init_351 rfl ?_
  refine z_bipush X 27 dX13_init_352 rfl ?_
  refine z_bipush X 36 dX13_init_354 rfl ?_
  refine zx_ast0 X K 0 ht0 rfl rfl rfl dX13_init_356 ?_
  refine z_dup X dX13_init_357 rfl ?_
  refine z_bipush X 28 dX13_init_358 rfl ?_
  refine z_bipush X 36 dX13_init_360 rfl ?_
  refine zx_ast0 X K 0 ht0 rfl rfl rfl dX13_init_362 ?_
  refine z_dup X dX13_init_363 rfl ?_
  refine z_bipush X 29 dX13_init_364 rfl ?_
  refine z_bipush X 48 dX13_init_366 rfl ?_
  refine zx_ast0 X K 0 ht0 rfl rfl rfl dX13_init_368 ?_
  refine zx_putSF (C := RX13) (T := TX13) (ref := RX13) (ty := .array .int) X K in_X13 tyX13 tyX13_ok nmX13 hc0 2 (by decide) q1202 (fun _ h => h) rfl hn rfl (by decide +kernel) rfl rfl l1 dX13_init_369 (fun fs2 e2 l2 => ?_)
  refine z_aload_n X 0 dX13_init_372 rfl ?_
  refine z_bipush X 30 dX13_init_373 rfl ?_
  refine zx_newI (t0 := 0) (N' := 30) X K ht0 rfl (by decide) ⟨by omega, by omega⟩ dX13_init_375 (fun q2 => ?_)
  refine z_dup X dX13_init_377 rfl ?_
  refine z_iconst X 0 dX13_init_378 ?_
  refine z_iconst X 5 dX13_init_379 ?_
  refine zx_ast0 X K 0 ht0 rfl rfl rfl dX13_init_380 ?_
  refine z_dup X dX13_init_381 rfl ?_
  refine z_iconst X 1 dX13_init_382 ?_
  refine z_bipush X 7 dX13_init_383 rfl ?_
  refine zx_ast0 X K 0 ht0 rfl rfl rfl dX13_init_385 ?_
  refine z_dup X dX13_init_386 rfl ?_
  refine z_iconst X 2 dX13_init_387 ?_
  refine z_bipush X 10 dX13_init_388 rfl ?_
  refine zx_ast0 X K 0 ht0 rfl rfl rfl dX13_init_390 ?_
  refine z_dup X dX13_init_391 rfl ?_
  refine z_iconst X 3 dX13_init_392 ?_
  refine z_bipush X 12 dX13_init_393 rfl ?_
  refine zx_ast0 X K 0 ht0 rfl rfl rfl dX13_init_395 ?_
  refine z_dup X dX13_init_396 rfl ?_
  refine z_iconst X 4 dX13_init_397 ?_
  refine z_bipush X 14 dX13_init_398 rfl ?_
  refine zx_ast0 X K 0 ht0 rfl rfl rfl dX13_init_400 ?_
  refine z_dup X dX13_init_401 rfl ?_
  refine z_iconst X 5 dX13_init_402 ?_
  refine z_bipush X 18 dX13_init_403 rfl ?_
  refine zx_ast0 X K 0 ht0 rfl rfl rfl dX13_init_405 ?_
  refine z_dup X dX13_init_406 rfl ?_
  refine z_bipush X 6 dX13_init_407 rfl ?_
  refine z_bipush X 20 dX13_init_409 rfl ?_
  refine zx_ast0 X K 0 ht0 rfl rfl rfl dX13_init_411 ?_
  refine z_dup X dX13_init_412 rfl ?_
  refine z_bipush X 7 dX13_init_413 rfl ?_
  refine z_bipush X 24 dX13_init_415 rfl ?_
  refine zx_ast0 X K 0 ht0 rfl rfl rfl dX13_init_417 ?_
  refine z_dup X dX13_init_418 rfl ?_
  refine z_bipush X 8 dX13_init_419 rfl ?_
  refine z_bipush X 28 dX13_init_421 rfl ?_
  refine zx_ast0 X K 0 ht0 rfl rfl rfl dX13_init_423 ?_
  refine z_dup X dX13_init_424 rfl ?_
  refine z_bipush X 9 dX13_init_425 rfl ?_
  refine z_bipush X 36 dX13_init_427 rfl ?_
  refine zx_ast0 X K 0 ht0 rfl rfl rfl dX13_init_429 ?_
  refine z_dup X dX13_init_430 rfl ?_
  refine z_bipush X 10 dX13_init_431 rfl ?_
  refine z_bipush X 42 dX13_init_433 rfl ?_
  refine zx_ast0 X K 0 ht0 rfl rfl rfl dX13_init_435 ?_
  refine z_dup X dX13_init_436 rfl ?_
  refine z_bipush X 11 dX13_init_437 rfl ?_
  refine z_bipush X 48 dX13_init_439 rfl ?_
  refine zx_ast0 X K 0 ht0 rfl rfl rfl dX13_init_441 ?_
  refine z_dup X dX13_init_442 rfl ?_
  refine z_bipush X 12 dX13_init_443 rfl ?_
  refine z_bipush X 56 dX13_init_445 rfl ?_
  refine zx_ast0 X K 0 ht0 rfl rfl rfl dX13_init_447 ?_
  refine z_dup X dX13_init_448 rfl ?_
  refine z_bipush X 13 dX13_init_449 rfl ?_
  refine z_bipush X 68 dX13_init_451 rfl ?_
  refine zx_ast0 X K 0 ht0 rfl rfl rfl dX13_init_453 ?_
  refine z_dup X dX13_init_454 rfl ?_
  refine z_bipush X 14 dX13_init_455 rfl ?_
  refine z_bipush X 84 dX13_init_457 rfl ?_
  refine zx_ast0 X K 0 ht0 rfl rfl rfl dX13_init_459 ?_
  refine z_dup X dX13_init_460 rfl ?_
  refine z_bipush X 15 dX13_init_461 rfl ?_
  refine z_bipush X 112 dX13_init_463 rfl ?_
  refine zx_ast0 X K 0 ht0 rfl rfl rfl dX13_init_465 ?_
  refine z_dup X dX13_init_466 rfl ?_
  refine z_bipush X 16 dX13_init_467 rfl ?_
  refine z_sipush X 144 dX13_init_469 rfl ?_
  refine zx_ast0 X K 0 ht0 rfl rfl rfl dX13_init_472 ?_
  refine z_dup X dX13_init_473 rfl ?_
  refine z_bipush X 17 dX13_init_474 rfl ?_
  refine z_sipush X 192 dX13_init_476 rfl ?_
  refine zx_ast0 X K 0 ht0 rfl rfl rfl dX13_init_479 ?_
  refine z_dup X dX13_init_480 rfl ?_
  refine z_bipush X 18 dX13_init_481 rfl ?_
  refine z_sipush X 224 dX13_init_483 rfl ?_
  refine zx_ast0 X K 0 ht0 rfl rfl rfl dX13_init_486 ?_
  refine z_dup X dX13_init_487 rfl ?_
  refine z_bipush X 19 dX13_init_488 rfl ?_
  refine z_sipush X 272 dX13_init_490 rfl ?_
  refine zx_ast0 X K 0 ht0 rfl rfl rfl dX13_init_493 ?_
  refine z_dup X dX13_init_494 rfl ?_
  refine z_bipush X 20 dX13_init_495 rfl ?_
  refine z_sipush X 336 dX13_init_497 rfl ?_
  refine zx_ast0 X K 0 ht0 rfl rfl rfl dX13_init_500 ?_
  refine z_dup X dX13_init_501 rfl ?_
  refine z_bipush X 21 dX13_init_502 rfl ?_
  refine z_sipush X 408 dX13_init_504 rfl ?_
  refine zx_ast0 X K 0 ht0 rfl rfl rfl dX13_init_507 ?_
  refine z_dup X dX13_init_508 rfl ?_
  refine z_bipush X 22 dX13_init_509 rfl ?_
  refine z_sipush X 496 dX13_init_511 rfl ?_
  refine zx_ast0 X K 0 ht0 rfl rfl rfl dX13_init_514 ?_
  refine z_dup X dX13_init_515 rfl ?_
  refine z_bipush X 23 dX13_init_516 rfl ?_
  refine z_sipush X 620 dX13_init_518 rfl ?_
  refine zx_ast0 X K 0 ht0 rfl rfl rfl dX13_init_521 ?_
  refine z_dup X dX13_init_522 rfl ?_
  refine z_bipush X 24 dX13_init_523 rfl ?_
  refine z_bipush X 7 dX13_init_525 rfl ?_
  refine zx_ast0 X K 0 ht0 rfl rfl rfl dX13_init_527 ?_
  refine z_dup X dX13_init_528 rfl ?_
  refine z_bipush X 25 dX13_init_529 rfl ?_
  refine z_bipush X 11 dX13_init_531 rfl ?_
  refine zx_ast0 X K 0 ht0 rfl rfl rfl dX13_init_533 ?_
  refine z_dup X dX13_init_534 rfl ?_
  refine z_bipush X 26 dX13_init_535 rfl ?_
  refine z_bipush X 14 dX13_init_537 rfl ?_
  refine zx_ast0 X K 0 ht0 rfl rfl rfl dX13_init_539 ?_
  refine z_dup X dX13_init_540 rfl ?_
  refine z_bipush X 27 dX13_init_541 rfl ?_
  refine z_bipush X 18 dX13_init_543 rfl ?_
  refine zx_ast0 X K 0 ht0 rfl rfl rfl dX13_init_545 ?_
  refine z_dup X dX13_init_546 rfl ?_
  refine z_bipush X 28 dX13_init_547 rfl ?_
  refine z_bipush X 24 dX13_init_549 rfl ?_
  refine zx_ast0 X K 0 ht0 rfl rfl rfl dX13_init_551 ?_
  refine z_dup X dX13_init_552 rfl ?_
  refine z_bipush X 29 dX13_init_553 rfl ?_
  refine z_bipush X 28 dX13_init_555 rfl ?_
  refine zx_ast0 X K 0 ht0 rfl rfl rfl dX13_init_557 ?_
  refine zx_putSF (C := RX13) (T := TX13) (ref := RX13) (ty := .array .int) X K in_X13 tyX13 tyX13_ok nmX13 hc0 3 (by decide) q1203 (fun _ h => h) rfl hn rfl (by decide +kernel) rfl rfl l2 dX13_init_558 (fun fs3 e3 l3 => ?_)
  refine z_aload_n X 0 dX13_init_561 rfl ?_
  refine z_bipush X 30 dX13_init_562 rfl ?_
  refine zx_newI (t0 := 0) (N' := 30) X K ht0 rfl (by decide) ⟨by omega, by omega⟩ dX13_init_564 (fun q3 => ?_)
  refine z_dup X dX13_init_566 rfl ?_
  refine z_iconst X 0 dX13_init_567 ?_
  refine z_iconst X 1 dX13_init_568 ?_
  refine zx_ast0 X K 0 ht0 rfl rfl rfl dX13_init_569 ?_
  refine z_dup X dX13_init_570 rfl ?_
  refine z_iconst X 1 dX13_init_571 ?_
  refine z_iconst X 1 dX13_init_572 ?_
  refine zx_ast0 X K 0 ht0 rfl rfl rfl dX13_init_573 ?_
  refine z_dup X dX13_init_574 rfl ?_
  refine z_iconst X 2 dX13_init_575 ?_
  refine z_iconst X 1 dX13_init_576 ?_
  refine zx_ast0 X K 0 ht0 rfl rfl rfl dX13_init_577 ?_
  refine z_dup X dX13_init_578 rfl ?_
  refine z_iconst X 3 dX13_init_579 ?_
  refine z_iconst X 1 dX13_init_580 ?_
  refine zx_ast0 X K 0 ht0 rfl rfl rfl dX13_init_581 ?_
  refine z_dup X dX13_init_582 rfl ?_
  refine z_iconst X 4 dX13_init_583 ?_
  refine z_iconst X 1 dX13_init_584 ?_
  refine zx_ast0 X K 0 ht0 rfl rfl rfl dX13_init_585 ?_
  refine z_dup X dX13_init_586 rfl ?_
  refine z_iconst X 5 dX13_init_587 ?_
  refine z_iconst X 1 dX13_init_588 ?_
  refine zx_ast0 X K 0 ht0 rfl rfl rfl dX13_init_589 ?_
  refine z_dup X dX13_init_590 rfl ?_
  refine z_bipush X 6 dX13_init_591 rfl ?_
  refine z_iconst X 1 dX13_init_593 ?_
  refine zx_ast0 X K 0 ht0 rfl rfl rfl dX13_init_594 ?_
  refine z_dup X dX13_init_595 rfl ?_
  refine z_bipush X 7 dX13_init_596 rfl ?_
  refine z_iconst X 1 dX13_init_598 ?_
  refine zx_ast0 X K 0 ht0 rfl rfl rfl dX13_init_599 ?_
  refine z_dup X dX13_init_600 rfl ?_
  refine z_bipush X 8 dX13_init_601 rfl ?_
  refine z_iconst X 1 dX13_init_603 ?_
  refine zx_ast0 X K 0 ht0 rfl rfl rfl dX13_init_604 ?_
  refine z_dup X dX13_init_605 rfl ?_
  refine z_bipush X 9 dX13_init_606 rfl ?_
  refine z_iconst X 1 dX13_init_608 ?_
  refine zx_ast0 X K 0 ht0 rfl rfl rfl dX13_init_609 ?_
  refine z_dup X dX13_init_610 rfl ?_
  refine z_bipush X 10 dX13_init_611 rfl ?_
  refine z_iconst X 1 dX13_init_613 ?_
  refine zx_ast0 X K 0 ht0 rfl rfl rfl dX13_init_614 ?_
  refine z_dup X dX13_init_615 rfl ?_
  refine z_bipush X 11 dX13_init_616 rfl ?_
  refine z_iconst X 1 dX13_init_618 ?_
  refine zx_ast0 X K 0 ht0 rfl rfl rfl dX13_init_619 ?_
  refine z_dup X dX13_init_620 rfl ?_
  refine z_bipush X 12 dX13_init_621 rfl ?_
  refine z_iconst X 1 dX13_init_623 ?_
  refine zx_ast0 X K 0 ht0 rfl rfl rfl dX13_init_624 ?_
  refine z_dup X dX13_init_625 rfl ?_
  refine z_bipush X 13 dX13_init_626 rfl ?_
  refine z_iconst X 1 dX13_init_628 ?_
  refine zx_ast0 X K 0 ht0 rfl rfl rfl dX13_init_629 ?_
  refine z_dup X dX13_init_630 rfl ?_
  refine z_bipush X 14 dX13_init_631 rfl ?_
  refine z_iconst X 2 dX13_init_633 ?_
  refine zx_ast0 X K 0 ht0 rfl rfl rfl dX13_init_634 ?_
  refine z_dup X dX13_init_635 rfl ?_
  refine z_bipush X 15 dX13_init_636 rfl ?_
  refine z_iconst X 2 dX13_init_638 ?_
  refine zx_ast0 X K 0 ht0 rfl rfl rfl dX13_init_639 ?_
  refine z_dup X dX13_init_640 rfl ?_
  refine z_bipush X 16 dX13_init_641 rfl ?_
  refine z_iconst X 4 dX13_init_643 ?_
  refine zx_ast0 X K 0 ht0 rfl rfl rfl dX13_init_644 ?_
  refine z_dup X dX13_init_645 rfl ?_
  refine z_bipush X 17 dX13_init_646 rfl ?_
  refine z_iconst X 4 dX13_init_648 ?_
  refine zx_ast0 X K 0 ht0 rfl rfl rfl dX13_init_649 ?_
  refine z_dup X dX13_init_650 rfl ?_
  refine z_bipush X 18 dX13_init_651 rfl ?_
  refine z_iconst X 4 dX13_init_653 ?_
  refine zx_ast0 X K 0 ht0 rfl rfl rfl dX13_init_654 ?_
  refine z_dup X dX13_init_655 rfl ?_
  refine z_bipush X 19 dX13_init_656 rfl ?_
  refine z_iconst X 4 dX13_init_658 ?_
  refine zx_ast0 X K 0 ht0 rfl rfl rfl dX13_init_659 ?_
  refine z_dup X dX13_init_660 rfl ?_
  refine z_bipush X 20 dX13_init_661 rfl ?_
  refine z_bipush X 6 dX13_init_663 rfl ?_
  refine zx_ast0 X K 0 ht0 rfl rfl rfl dX13_init_665 ?_
  refine z_dup X dX13_init_666 rfl ?_
  refine z_bipush X 21 dX13_init_667 rfl ?_
  refine z_bipush X 6 dX13_init_669 rfl ?_
  refine zx_ast0 X K 0 ht0 rfl rfl rfl dX13_init_671 ?_
  refine z_dup X dX13_init_672 rfl ?_
  refine z_bipush X 22 dX13_init_673 rfl ?_
  refine z_bipush X 8 dX13_init_675 rfl ?_
  refine zx_ast0 X K 0 ht0 rfl rfl rfl dX13_init_677 ?_
  refine z_dup X dX13_init_678 rfl ?_
  refine z_bipush X 23 dX13_init_679 rfl ?_
  refine z_bipush X 10 dX13_init_681 rfl ?_
  refine zx_ast0 X K 0 ht0 rfl rfl rfl dX13_init_683 ?_
  refine z_dup X dX13_init_684 rfl ?_
  refine z_bipush X 24 dX13_init_685 rfl ?_
  refine z_iconst X 1 dX13_init_687 ?_
  refine zx_ast0 X K 0 ht0 rfl rfl rfl dX13_init_688 ?_
  refine z_dup X dX13_init_689 rfl ?_
  refine z_bipush X 25 dX13_init_690 rfl ?_
  refine z_iconst X 1 dX13_init_692 ?_
  refine zx_ast0 X K 0 ht0 rfl rfl rfl dX13_init_693 ?_
  refine z_dup X dX13_init_694 rfl ?_
  refine z_bipush X 26 dX13_init_695 rfl ?_
  refine z_iconst X 1 dX13_init_697 ?_
  refine zx_ast0 X K 0 ht0 rfl rfl rfl dX13_init_698 ?_
  refine z_dup X dX13_init_699 rfl ?_
  refine z_bipush X 27 dX13_init_700 rfl ?_
  refine z_iconst X 1 dX13_init_702 ?_
  refine zx_ast0 X K 0 ht0 rfl rfl rfl dX13_init_703 ?_
  refine z_dup X dX13_init_704 rfl ?_
  refine z_bipush X 28 dX13_init_705 rfl ?_
  refine z_iconst X 1 dX13_init_707 ?_
  refine zx_ast0 X K 0 ht0 rfl rfl rfl dX13_init_708 ?_
  refine z_dup X dX13_init_709 rfl ?_
  refine z_bipush X 29 dX13_init_710 rfl ?_
  refine z_iconst X 1 dX13_init_712 ?_
  refine zx_ast0 X K 0 ht0 rfl rfl rfl dX13_init_713 ?_
  refine zx_putSF (C := RX13) (T := TX13) (ref := RX13) (ty := .array .int) X K in_X13 tyX13 tyX13_ok nmX13 hc0 4 (by decide) q1204 (fun _ h => h) rfl hn rfl (by decide +kernel) rfl rfl l3 dX13_init_714 (fun fs4 e4 l4 => ?_)
  refine z_aload_n X 0 dX13_init_717 rfl ?_
  refine z_bipush X 30 dX13_init_718 rfl ?_
  refine zx_newI (t0 := 0) (N' := 30) X K ht0 rfl (by decide) ⟨by omega, by omega⟩ dX13_init_720 (fun q4 => ?_)
  refine z_dup X dX13_init_722 rfl ?_
  refine z_iconst X 0 dX13_init_723 ?_
  refine z_iconst X 1 dX13_init_724 ?_
  refine zx_ast0 X K 0 ht0 rfl rfl rfl dX13_init_725 ?_
  refine z_dup X dX13_init_726 rfl ?_
  refine z_iconst X 1 dX13_init_727 ?_
  refine z_iconst X 1 dX13_init_728 ?_
  refine zx_ast0 X K 0 ht0 rfl rfl rfl dX13_init_729 ?_
  refine z_dup X dX13_init_730 rfl ?_
  refine z_iconst X 2 dX13_init_731 ?_
  refine z_iconst X 1 dX13_init_732 ?_
  refine zx_ast0 X K 0 ht0 rfl rfl rfl dX13_init_733 ?_
  refine z_dup X dX13_init_734 rfl ?_
  refine z_iconst X 3 dX13_init_735 ?_
  refine z_iconst X 1 dX13_init_736 ?_
  refine zx_ast0 X K 0 ht0 rfl rfl rfl dX13_init_737 ?_
  refine z_dup X dX13_init_738 rfl ?_
  refine z_iconst X 4 dX13_init_739 ?_
  refine z_iconst X 1 dX13_init_740 ?_
  refine zx_ast0 X K 0 ht0 rfl rfl rfl dX13_init_741 ?_
  refine z_dup X dX13_init_742 rfl ?_
  refine z_iconst X 5 dX13_init_743 ?_
  refine z_iconst X 1 dX13_init_744 ?_
  refine zx_ast0 X K 0 ht0 rfl rfl rfl dX13_init_745 ?_
  refine z_dup X dX13_init_746 rfl ?_
  refine z_bipush X 6 dX13_init_747 rfl ?_
  refine z_iconst X 1 dX13_init_749 ?_
  refine zx_ast0 X K 0 ht0 rfl rfl rfl dX13_init_750 ?_
  refine z_dup X dX13_init_751 rfl ?_
  refine z_bipush X 7 dX13_init_752 rfl ?_
  refine z_iconst X 1 dX13_init_754 ?_
  refine zx_ast0 X K 0 ht0 rfl rfl rfl dX13_init_755 ?_
  refine z_dup X dX13_init_756 rfl ?_
  refine z_bipush X 8 dX13_init_757 rfl ?_
  refine z_iconst X 1 dX13_init_759 ?_
  refine zx_ast0 X K 0 ht0 rfl rfl rfl dX13_init_760 ?_
  refine z_dup X dX13_init_761 rfl ?_
  refine z_bipush X 9 dX13_init_762 rfl ?_
  refine z_iconst X 2 dX13_init_764 ?_
  refine zx_ast0 X K 0 ht0 rfl rfl rfl dX13_init_765 ?_
  refine z_dup X dX13_init_766 rfl ?_
  refine z_bipush X 10 dX13_init_767 rfl ?_
  refine z_iconst X 2 dX13_init_769 ?_
  refine zx_ast0 X K 0 ht0 rfl rfl rfl dX13_init_770 ?_
  refine z_dup X dX13_init_771 rfl ?_
  refine z_bipush X 11 dX13_init_772 rfl ?_
  refine z_iconst X 2 dX13_init_774 ?_
  refine zx_ast0 X K 0 ht0 rfl rfl rfl dX13_init_775 ?_
  refine z_dup X dX13_init_776 rfl ?_
  refine z_bipush X 12 dX13_init_777 rfl ?_
  refine z_iconst X 2 dX13_init_779 ?_
  refine zx_ast0 X K 0 ht0 rfl rfl rfl dX13_init_780 ?_
  refine z_dup X dX13_init_781 rfl ?_
  refine z_bipush X 13 dX13_init_782 rfl ?_
  refine z_iconst X 2 dX13_init_784 ?_
  refine zx_ast0 X K 0 ht0 rfl rfl rfl dX13_init_785 ?_
  refine z_dup X dX13_init_786 rfl ?_
  refine z_bipush X 14 dX13_init_787 rfl ?_
  refine z_iconst X 2 dX13_init_789 ?_
  refine zx_ast0 X K 0 ht0 rfl rfl rfl dX13_init_790 ?_
  refine z_dup X dX13_init_791 rfl ?_
  refine z_bipush X 15 dX13_init_792 rfl ?_
  refine z_iconst X 4 dX13_init_794 ?_
  refine zx_ast0 X K 0 ht0 rfl rfl rfl dX13_init_795 ?_
  refine z_dup X dX13_init_796 rfl ?_
  refine z_bipush X 16 dX13_init_797 rfl ?_
  refine z_iconst X 4 dX13_init_799 ?_
  refine zx_ast0 X K 0 ht0 rfl rfl rfl dX13_init_800 ?_
  refine z_dup X dX13_init_801 rfl ?_
  refine z_bipush X 17 dX13_init_802 rfl ?_
  refine z_iconst X 4 dX13_init_804 ?_
  refine zx_ast0 X K 0 ht0 rfl rfl rfl dX13_init_805 ?_
  refine z_dup X dX13_init_806 rfl ?_
  refine z_bipush X 18 dX13_init_807 rfl ?_
  refine z_iconst X 4 dX13_init_809 ?_
  refine zx_ast0 X K 0 ht0 rfl rfl rfl dX13_init_810 ?_
  refine z_dup X dX13_init_811 rfl ?_
  refine z_bipush X 19 dX13_init_812 rfl ?_
  refine z_iconst X 4 dX13_init_814 ?_
  refine zx_ast0 X K 0 ht0 rfl rfl rfl dX13_init_815 ?_
  refine z_dup X dX13_init_816 rfl ?_
  refine z_bipush X 20 dX13_init_817 rfl ?_
  refine z_iconst X 4 dX13_init_819 ?_
  refine zx_ast0 X K 0 ht0 rfl rfl rfl dX13_init_820 ?_
  refine z_dup X dX13_init_821 rfl ?_
  refine z_bipush X 21 dX13_init_822 rfl ?_
  refine z_bipush X 6 dX13_init_824 rfl ?_
  refine zx_ast0 X K 0 ht0 rfl rfl rfl dX13_init_826 ?_
  refine z_dup X dX13_init_827 rfl ?_
  refine z_bipush X 22 dX13_init_828 rfl ?_
  refine z_bipush X 6 dX13_init_830 rfl ?_
  refine zx_ast0 X K 0 ht0 rfl rfl rfl dX13_init_832 ?_
  refine z_dup X dX13_init_833 rfl ?_
  refine z_bipush X 23 dX13_init_834 rfl ?_
  refine z_bipush X 6 dX13_init_836 rfl ?_
  refine zx_ast0 X K 0 ht0 rfl rfl rfl dX13_init_838 ?_
  refine z_dup X dX13_init_839 rfl ?_
  refine z_bipush X 24 dX13_init_840 rfl ?_
  refine z_iconst X 1 dX13_init_842 ?_
  refine zx_ast0 X K 0 ht0 rfl rfl rfl dX13_init_843 ?_
  refine z_dup X dX13_init_844 rfl ?_
  refine z_bipush X 25 dX13_init_845 rfl ?_
  refine z_iconst X 1 dX13_init_847 ?_
  refine zx_ast0 X K 0 ht0 rfl rfl rfl dX13_init_848 ?_
  refine z_dup X dX13_init_849 rfl ?_
  refine z_bipush X 26 dX13_init_850 rfl ?_
  refine z_iconst X 1 dX13_init_852 ?_
  refine zx_ast0 X K 0 ht0 rfl rfl rfl dX13_init_853 ?_
  refine z_dup X dX13_init_854 rfl ?_
  refine z_bipush X 27 dX13_init_855 rfl ?_
  refine z_iconst X 1 dX13_init_857 ?_
  refine zx_ast0 X K 0 ht0 rfl rfl rfl dX13_init_858 ?_
  refine z_dup X dX13_init_859 rfl ?_
  refine z_bipush X 28 dX13_init_860 rfl ?_
  refine z_iconst X 1 dX13_init_862 ?_
  refine zx_ast0 X K 0 ht0 rfl rfl rfl dX13_init_863 ?_
  refine z_dup X dX13_init_864 rfl ?_
  refine z_bipush X 29 dX13_init_865 rfl ?_
  refine z_iconst X 1 dX13_init_867 ?_
  refine zx_ast0 X K 0 ht0 rfl rfl rfl dX13_init_868 ?_
  refine zx_putSF (C := RX13) (T := TX13) (ref := RX13) (ty := .array .int) X K in_X13 tyX13 tyX13_ok nmX13 hc0 5 (by decide) q1205 (fun _ h => h) rfl hn rfl (by decide +kernel) rfl rfl l4 dX13_init_869 (fun fs5 e5 l5 => ?_)
  refine z_aload_n X 0 dX13_init_872 rfl ?_
  refine z_bipush X 30 dX13_init_873 rfl ?_
  refine zx_newI (t0 := 0) (N' := 30) X K ht0 rfl (by decide) ⟨by omega, by omega⟩ dX13_init_875 (fun q5 => ?_)
  refine z_dup X dX13_init_877 rfl ?_
  refine z_iconst X 0 dX13_init_878 ?_
  refine z_iconst X 1 dX13_init_879 ?_
  refine zx_ast0 X K 0 ht0 rfl rfl rfl dX13_init_880 ?_
  refine z_dup X dX13_init_881 rfl ?_
  refine z_iconst X 1 dX13_init_882 ?_
  refine z_iconst X 1 dX13_init_883 ?_
  refine zx_ast0 X K 0 ht0 rfl rfl rfl dX13_init_884 ?_
  refine z_dup X dX13_init_885 rfl ?_
  refine z_iconst X 2 dX13_init_886 ?_
  refine z_iconst X 1 dX13_init_887 ?_
  refine zx_ast0 X K 0 ht0 rfl rfl rfl dX13_init_888 ?_
  refine z_dup X dX13_init_889 rfl ?_
  refine z_iconst X 3 dX13_init_890 ?_
  refine z_iconst X 1 dX13_init_891 ?_
  refine zx_ast0 X K 0 ht0 rfl rfl rfl dX13_init_892 ?_
  refine z_dup X dX13_init_893 rfl ?_
  refine z_iconst X 4 dX13_init_894 ?_
  refine z_iconst X 1 dX13_init_895 ?_
  refine zx_ast0 X K 0 ht0 rfl rfl rfl dX13_init_896 ?_
  refine z_dup X dX13_init_897 rfl ?_
  refine z_iconst X 5 dX13_init_898 ?_
  refine z_iconst X 1 dX13_init_899 ?_
  refine zx_ast0 X K 0 ht0 rfl rfl rfl dX13_init_900 ?_
  refine z_dup X dX13_init_901 rfl ?_
  refine z_bipush X 6 dX13_init_902 rfl ?_
  refine z_iconst X 1 dX13_init_904 ?_
  refine zx_ast0 X K 0 ht0 rfl rfl rfl dX13_init_905 ?_
  refine z_dup X dX13_init_906 rfl ?_
  refine z_bipush X 7 dX13_init_907 rfl ?_
  refine z_iconst X 1 dX13_init_909 ?_
  refine zx_ast0 X K 0 ht0 rfl rfl rfl dX13_init_910 ?_
  refine z_dup X dX13_init_911 rfl ?_
  refine z_bipush X 8 dX13_init_912 rfl ?_
  refine z_iconst X 1 dX13_init_914 ?_
  refine zx_ast0 X K 0 ht0 rfl rfl rfl dX13_init_915 ?_
  refine z_dup X dX13_init_916 rfl ?_
  refine z_bipush X 9 dX13_init_917 rfl ?_
  refine z_iconst X 2 dX13_init_919 ?_
  refine zx_ast0 X K 0 ht0 rfl rfl rfl dX13_init_920 ?_
  refine z_dup X dX13_init_921 rfl ?_
  refine z_bipush X 10 dX13_init_922 rfl ?_
  refine z_iconst X 2 dX13_init_924 ?_
  refine zx_ast0 X K 0 ht0 rfl rfl rfl dX13_init_925 ?_
  refine z_dup X dX13_init_926 rfl ?_
  refine z_bipush X 11 dX13_init_927 rfl ?_
  refine z_iconst X 2 dX13_init_929 ?_
  refine zx_ast0 X K 0 ht0 rfl rfl rfl dX13_init_930 ?_
  refine z_dup X dX13_init_931 rfl ?_
  refine z_bipush X 12 dX13_init_932 rfl ?_
  refine z_iconst X 2 dX13_init_934 ?_
  refine zx_ast0 X K 0 ht0 rfl rfl rfl dX13_init_935 ?_
  refine z_dup X dX13_init_936 rfl ?_
  refine z_bipush X 13 dX13_init_937 rfl ?_
  refine z_iconst X 2 dX13_init_939 ?_
  refine zx_ast0 X K 0 ht0 rfl rfl rfl dX13_init_940 ?_
  refine z_dup X dX13_init_941 rfl ?_
  refine z_bipush X 14 dX13_init_942 rfl ?_
  refine z_iconst X 2 dX13_init_944 ?_
  refine zx_ast0 X K 0 ht0 rfl rfl rfl dX13_init_945 ?_
  refine z_dup X dX13_init_946 rfl ?_
  refine z_bipush X 15 dX13_init_947 rfl ?_
  refine z_iconst X 4 dX13_init_949 ?_
  refine zx_ast0 X K 0 ht0 rfl rfl rfl dX13_init_950 ?_
  refine z_dup X dX13_init_951 rfl ?_
  refine z_bipush X 16 dX13_init_952 rfl ?_
  refine z_iconst X 4 dX13_init_954 ?_
  refine zx_ast0 X K 0 ht0 rfl rfl rfl dX13_init_955 ?_
  refine z_dup X dX13_init_956 rfl ?_
  refine z_bipush X 17 dX13_init_957 rfl ?_
  refine z_iconst X 4 dX13_init_959 ?_
  refine zx_ast0 X K 0 ht0 rfl rfl rfl dX13_init_960 ?_
  refine z_dup X dX13_init_961 rfl ?_
  refine z_bipush X 18 dX13_init_962 rfl ?_
  refine z_iconst X 4 dX13_init_964 ?_
  refine zx_ast0 X K 0 ht0 rfl rfl rfl dX13_init_965 ?_
  refine z_dup X dX13_init_966 rfl ?_
  refine z_bipush X 19 dX13_init_967 rfl ?_
  refine z_iconst X 4 dX13_init_969 ?_
  refine zx_ast0 X K 0 ht0 rfl rfl rfl dX13_init_970 ?_
  refine z_dup X dX13_init_971 rfl ?_
  refine z_bipush X 20 dX13_init_972 rfl ?_
  refine z_iconst X 4 dX13_init_974 ?_
  refine zx_ast0 X K 0 ht0 rfl rfl rfl dX13_init_975 ?_
  refine z_dup X dX13_init_976 rfl ?_
  refine z_bipush X 21 dX13_init_977 rfl ?_
  refine z_bipush X 6 dX13_init_979 rfl ?_
  refine zx_ast0 X K 0 ht0 rfl rfl rfl dX13_init_981 ?_
  refine z_dup X dX13_init_982 rfl ?_
  refine z_bipush X 22 dX13_init_983 rfl ?_
  refine z_bipush X 6 dX13_init_985 rfl ?_
  refine zx_ast0 X K 0 ht0 rfl rfl rfl dX13_init_987 ?_
  refine z_dup X dX13_init_988 rfl ?_
  refine z_bipush X 23 dX13_init_989 rfl ?_
  refine z_bipush X 6 dX13_init_991 rfl ?_
  refine zx_ast0 X K 0 ht0 rfl rfl rfl dX13_init_993 ?_
  refine z_dup X dX13_init_994 rfl ?_
  refine z_bipush X 24 dX13_init_995 rfl ?_
  refine z_iconst X 1 dX13_init_997 ?_
  refine zx_ast0 X K 0 ht0 rfl rfl rfl dX13_init_998 ?_
  refine z_dup X dX13_init_999 rfl ?_
  refine z_bipush X 25 dX13_init_1000 rfl ?_
  refine z_iconst X 2 dX13_init_1002 ?_
  refine zx_ast0 X K 0 ht0 rfl rfl rfl dX13_init_1003 ?_
  refine z_dup X dX13_init_1004 rfl ?_
  refine z_bipush X 26 dX13_init_1005 rfl ?_
  refine z_iconst X 1 dX13_init_1007 ?_
  refine zx_ast0 X K 0 ht0 rfl rfl rfl dX13_init_1008 ?_
  refine z_dup X dX13_init_1009 rfl ?_
  refine z_bipush X 27 dX13_init_1010 rfl ?_
  refine z_iconst X 2 dX13_init_1012 ?_
  refine zx_ast0 X K 0 ht0 rfl rfl rfl dX13_init_1013 ?_
  refine z_dup X dX13_init_1014 rfl ?_
  refine z_bipush X 28 dX13_init_1015 rfl ?_
  refine z_iconst X 2 dX13_init_1017 ?_
  refine zx_ast0 X K 0 ht0 rfl rfl rfl dX13_init_1018 ?_
  refine z_dup X dX13_init_1019 rfl ?_
  refine z_bipush X 29 dX13_init_1020 rfl ?_
  refine z_iconst X 2 dX13_init_1022 ?_
  refine zx_ast0 X K 0 ht0 rfl rfl rfl dX13_init_1023 ?_
  refine zx_putSF (C := RX13) (T := TX13) (ref := RX13) (ty := .array .int) X K in_X13 tyX13 tyX13_ok nmX13 hc0 6 (by decide) q1206 (fun _ h => h) rfl hn rfl (by decide +kernel) rfl rfl l5 dX13_init_1024 (fun fs6 e6 l6 => ?_)
  refine z_aload_n X 0 dX13_init_1027 rfl ?_
  refine z_sipush X 512 dX13_init_1028 rfl ?_
  refine zx_newI (t0 := 0) (N' := 512) X K ht0 rfl (by decide) ⟨by omega, by omega⟩ dX13_init_1031 (fun q6 => ?_)
  refine zx_putSF (C := RX13) (T := TX13) (ref := RX13) (ty := .array .int) X K in_X13 tyX13 tyX13_ok nmX13 hc0 7 (by decide) q1207 (fun _ h => h) rfl hn rfl (by decide +kernel) rfl rfl l6 dX13_init_1033 (fun fs7 e7 l7 => ?_)
  refine z_aload_n X 0 dX13_init_1036 rfl ?_
  refine z_sipush X 256 dX13_init_1037 rfl ?_
  refine zx_newI (t0 := 0) (N' := 256) X K ht0 rfl (by decide) ⟨by omega, by omega⟩ dX13_init_1040 (fun q7 => ?_)
  refine zx_putSF (C := RX13) (T := TX13) (ref := RX13) (ty := .array .int) X K in_X13 tyX13 tyX13_ok nmX13 hc0 8 (by decide) q1208 (fun _ h => h) rfl hn rfl (by decide +kernel) rfl rfl l7 dX13_init_1042 (fun fs8 e8 l8 => ?_)
  refine z_aload_n X 0 dX13_init_1045 rfl ?_
  refine z_sipush X 3200 dX13_init_1046 rfl ?_
  refine zx_newI (t0 := 0) (N' := 3200) X K ht0 rfl (by decide) ⟨by omega, by omega⟩ dX13_init_1049 (fun q8 => ?_)
  refine zx_putSF (C := RX13) (T := TX13) (ref := RX13) (ty := .array .int) X K in_X13 tyX13 tyX13_ok nmX13 hc0 9 (by decide) q1209 (fun _ h => h) rfl hn rfl (by decide +kernel) rfl rfl l8 dX13_init_1051 (fun fs9 e9 l9 => ?_)
  refine z_aload_n X 0 dX13_init_1054 rfl ?_
  refine z_iconst X (-1) dX13_init_1055 ?_
  refine zx_put0 (C := RX13) (T := TX13) (ref := RX13) (ty := .int) X K in_X13 tyX13 tyX13_ok nmX13 hc0 12 (by decide) q1212 (fun _ h => h) rfl (by decide +kernel) rfl rfl l9 dX13_init_1056 (fun fs10 e10 l10 => ?_)
  refine z_aload_n X 0 dX13_init_1059 rfl ?_
  refine z_sipush X 17424 dX13_init_1060 rfl ?_
  refine zx_newI (t0 := 0) (N' := 17424) X K ht0 rfl (by decide) ⟨by omega, by omega⟩ dX13_init_1063 (fun q9 => ?_)
  refine zx_putSF (C := RX13) (T := TX13) (ref := RX13) (ty := .array .int) X K in_X13 tyX13 tyX13_ok nmX13 hc0 13 (by decide) q1213 (fun _ h => h) rfl hn rfl (by decide +kernel) rfl rfl l10 dX13_init_1065 (fun fs11 e11 l11 => ?_)
  refine z_aload_n X 0 dX13_init_1068 rfl ?_
  refine z_sipush X 17424 dX13_init_1069 rfl ?_
  refine zx_newI (t0 := 0) (N' := 17424) X K ht0 rfl (by decide) ⟨by omega, by omega⟩ dX13_init_1072 (fun q10 => ?_)
  refine zx_putSF (C := RX13) (T := TX13) (ref := RX13) (ty := .array .int) X K in_X13 tyX13 tyX13_ok nmX13 hc0 14 (by decide) q1214 (fun _ h => h) rfl hn rfl (by decide +kernel) rfl rfl l11 dX13_init_1074 (fun fs12 e12 l12 => ?_)
  refine z_aload_n X 0 dX13_init_1077 rfl ?_
  refine z_iconst X (-1) dX13_init_1078 ?_
  refine zx_put0 (C := RX13) (T := TX13) (ref := RX13) (ty := .int) X K in_X13 tyX13 tyX13_ok nmX13 hc0 18 (by decide) q1218 (fun _ h => h) rfl (by decide +kernel) rfl rfl l12 dX13_init_1079 (fun fs13 e13 l13 => ?_)
  refine z_aload_n X 0 dX13_init_1082 rfl ?_
  refine z_sipush X 20736 dX13_init_1083 rfl ?_
  refine zx_newZ (t0 := 1) (N' := 20736) X K ht1 rfl (by decide) ⟨by omega, by omega⟩ dX13_init_1086 (fun q11 => ?_)
  refine zx_putSF (C := RX13) (T := TX13) (ref := RX13) (ty := .array .boolean) X K in_X13 tyX13 tyX13_ok nmX13 hc0 19 (by decide) q1219 (fun _ h => h) rfl hn rfl (by decide +kernel) rfl rfl l13 dX13_init_1088 (fun fs14 e14 l14 => ?_)
  refine z_aload_n X 0 dX13_init_1091 rfl ?_
  refine z_sipush X 2178 dX13_init_1092 rfl ?_
  refine zx_newI (t0 := 0) (N' := 2178) X K ht0 rfl (by decide) ⟨by omega, by omega⟩ dX13_init_1095 (fun q12 => ?_)
  refine zx_putSF (C := RX13) (T := TX13) (ref := RX13) (ty := .array .int) X K in_X13 tyX13 tyX13_ok nmX13 hc0 20 (by decide) q1220 (fun _ h => h) rfl hn rfl (by decide +kernel) rfl rfl l14 dX13_init_1097 (fun fs15 e15 l15 => ?_)
  refine z_aload_n X 0 dX13_init_1100 rfl ?_
  refine z_bipush X 70 dX13_init_1101 rfl ?_
  refine zx_newI (t0 := 0) (N' := 70) X K ht0 rfl (by decide) ⟨by omega, by omega⟩ dX13_init_1103 (fun q13 => ?_)
  refine zx_putSF (C := RX13) (T := TX13) (ref := RX13) (ty := .array .int) X K in_X13 tyX13 tyX13_ok nmX13 hc0 21 (by decide) q1221 (fun _ h => h) rfl hn rfl (by decide +kernel) rfl rfl l15 dX13_init_1105 (fun fs16 e16 l16 => ?_)
  refine z_aload_n X 0 dX13_init_1108 rfl ?_
  refine z_bipush X 70 dX13_init_1109 rfl ?_
  refine zx_newI (t0 := 0) (N' := 70) X K ht0 rfl (by decide) ⟨by omega, by omega⟩ dX13_init_1111 (fun q14 => ?_)
  refine zx_putSF (C := RX13) (T := TX13) (ref := RX13) (ty := .array .int) X K in_X13 tyX13 tyX13_ok nmX13 hc0 22 (by decide) q1222 (fun _ h => h) rfl hn rfl (by decide +kernel) rfl rfl l16 dX13_init_1113 (fun fs17 e17 l17 => ?_)
  refine z_aload_n X 0 dX13_init_1116 rfl ?_
  refine z_bipush X 70 dX13_init_1117 rfl ?_
  refine zx_newI (t0 := 0) (N' := 70) X K ht0 rfl (by decide) ⟨by omega, by omega⟩ dX13_init_1119 (fun q15 => ?_)
  refine zx_putSF (C := RX13) (T := TX13) (ref := RX13) (ty := .array .int) X K in_X13 tyX13 tyX13_ok nmX13 hc0 23 (by decide) q1223 (fun _ h => h) rfl hn rfl (by decide +kernel) rfl rfl l17 dX13_init_1121 (fun fs18 e18 l18 => ?_)
  refine z_aload_n X 0 dX13_init_1124 rfl ?_
  refine z_sipush X 256 dX13_init_1125 rfl ?_
  refine zx_newI (t0 := 0) (N' := 256) X K ht0 rfl (by decide) ⟨by omega, by omega⟩ dX13_init_1128 (fun q16 => ?_)
  refine zx_putSF (C := RX13) (T := TX13) (ref := RX13) (ty := .array .int) X K in_X13 tyX13 tyX13_ok nmX13 hc0 24 (by decide) q1224 (fun _ h => h) rfl hn rfl (by decide +kernel) rfl rfl l18 dX13_init_1130 (fun fs19 e19 l19 => ?_)
  refine z_aload_n X 0 dX13_init_1133 rfl ?_
  refine z_sipush X 1260 dX13_init_1134 rfl ?_
  refine zx_newI (t0 := 0) (N' := 1260) X K ht0 rfl (by decide) ⟨by omega, by omega⟩ dX13_init_1137 (fun q17 => ?_)
  refine zx_putSF (C := RX13) (T := TX13) (ref := RX13) (ty := .array .int) X K in_X13 tyX13 tyX13_ok nmX13 hc0 26 (by decide) q1226 (fun _ h => h) rfl hn rfl (by decide +kernel) rfl rfl l19 dX13_init_1139 (fun fs20 e20 l20 => ?_)
  refine z_aload_n X 0 dX13_init_1142 rfl ?_
  refine z_bipush X 36 dX13_init_1143 rfl ?_
  refine zx_newI (t0 := 0) (N' := 36) X K ht0 rfl (by decide) ⟨by omega, by omega⟩ dX13_init_1145 (fun q18 => ?_)
  refine zx_putSF (C := RX13) (T := TX13) (ref := RX13) (ty := .array .int) X K in_X13 tyX13 tyX13_ok nmX13 hc0 27 (by decide) q1227 (fun _ h => h) rfl hn rfl (by decide +kernel) rfl rfl l20 dX13_init_1147 (fun fs21 e21 l21 => ?_)
  refine z_aload_n X 0 dX13_init_1150 rfl ?_
  refine z_bipush X 36 dX13_init_1151 rfl ?_
  refine zx_newI (t0 := 0) (N' := 36) X K ht0 rfl (by decide) ⟨by omega, by omega⟩ dX13_init_1153 (fun q19 => ?_)
  refine zx_putSF (C := RX13) (T := TX13) (ref := RX13) (ty := .array .int) X K in_X13 tyX13 tyX13_ok nmX13 hc0 28 (by decide) q1228 (fun _ h => h) rfl hn rfl (by decide +kernel) rfl rfl l21 dX13_init_1155 (fun fs22 e22 l22 => ?_)
  refine z_aload_n X 0 dX13_init_1158 rfl ?_
  refine z_sipush X 4000 dX13_init_1159 rfl ?_
  refine zx_newI (t0 := 0) (N' := 4000) X K ht0 rfl (by decide) ⟨by omega, by omega⟩ dX13_init_1162 (fun q20 => ?_)
  refine zx_putSF (C := RX13) (T := TX13) (ref := RX13) (ty := .array .int) X K in_X13 tyX13 tyX13_ok nmX13 hc0 30 (by decide) q1230 (fun _ h => h) rfl hn rfl (by decide +kernel) rfl rfl l22 dX13_init_1164 (fun fs23 e23 l23 => ?_)
  refine z_aload_n X 0 dX13_init_1167 rfl ?_
  refine z_sipush X 4000 dX13_init_1168 rfl ?_
  refine zx_newI (t0 := 0) (N' := 4000) X K ht0 rfl (by decide) ⟨by omega, by omega⟩ dX13_init_1171 (fun q21 => ?_)
  refine zx_putSF (C := RX13) (T := TX13) (ref := RX13) (ty := .array .int) X K in_X13 tyX13 tyX13_ok nmX13 hc0 32 (by decide) q1232 (fun _ h => h) rfl hn rfl (by decide +kernel) rfl rfl l23 dX13_init_1173 (fun fs24 e24 l24 => ?_)
  refine z_aload_n X 0 dX13_init_1176 rfl ?_
  refine z_sipush X 22407 dX13_init_1177 rfl ?_
  refine zx_newI (t0 := 0) (N' := 22407) X K ht0 rfl (by decide) ⟨by omega, by omega⟩ dX13_init_1180 (fun q22 => ?_)
  refine zx_putSF (C := RX13) (T := TX13) (ref := RX13) (ty := .array .int) X K in_X13 tyX13 tyX13_ok nmX13 hc0 41 (by decide) q1241 (fun _ h => h) rfl hn rfl (by decide +kernel) rfl rfl l24 dX13_init_1182 (fun fs25 e25 l25 => ?_)
  refine z_aload_n X 0 dX13_init_1185 rfl ?_
  refine z_sipush X 22407 dX13_init_1186 rfl ?_
  refine zx_newI (t0 := 0) (N' := 22407) X K ht0 rfl (by decide) ⟨by omega, by omega⟩ dX13_init_1189 (fun q23 => ?_)
  refine zx_putSF (C := RX13) (T := TX13) (ref := RX13) (ty := .array .int) X K in_X13 tyX13 tyX13_ok nmX13 hc0 42 (by decide) q1242 (fun _ h => h) rfl hn rfl (by decide +kernel) rfl rfl l25 dX13_init_1191 (fun fs26 e26 l26 => ?_)
  refine z_aload_n X 0 dX13_init_1194 rfl ?_
  refine z_bipush X 26 dX13_init_1195 rfl ?_
  refine zx_newI (t0 := 0) (N' := 26) X K ht0 rfl (by decide) ⟨by omega, by omega⟩ dX13_init_1197 (fun q24 => ?_)
  refine zx_putSF (C := RX13) (T := TX13) (ref := RX13) (ty := .array .int) X K in_X13 tyX13 tyX13_ok nmX13 hc0 43 (by decide) q1243 (fun _ h => h) rfl hn rfl (by decide +kernel) rfl rfl l26 dX13_init_1199 (fun fs27 e27 l27 => ?_)
  refine z_aload_n X 0 dX13_init_1202 rfl ?_
  refine z_bipush X 26 dX13_init_1203 rfl ?_
  refine zx_newI (t0 := 0) (N' := 26) X K ht0 rfl (by decide) ⟨by omega, by omega⟩ dX13_init_1205 (fun q25 => ?_)
  refine zx_putSF (C := RX13) (T := TX13) (ref := RX13) (ty := .array .int) X K in_X13 tyX13 tyX13_ok nmX13 hc0 44 (by decide) q1244 (fun _ h => h) rfl hn rfl (by decide +kernel) rfl rfl l27 dX13_init_1207 (fun fs28 e28 l28 => ?_)
  refine z_aload_n X 0 dX13_init_1210 rfl ?_
  refine z_iconst X 4 dX13_init_1211 ?_
  refine zx_newI (t0 := 0) (N' := 4) X K ht0 rfl (by decide) ⟨by omega, by omega⟩ dX13_init_1212 (fun q26 => ?_)
  refine zx_putSF (C := RX13) (T := TX13) (ref := RX13) (ty := .array .int) X K in_X13 tyX13 tyX13_ok nmX13 hc0 50 (by decide) q1250 (fun _ h => h) rfl hn rfl (by decide +kernel) rfl rfl l28 dX13_init_1214 (fun fs29 e29 l29 => ?_)
  refine z_aload_n X 0 dX13_init_1217 rfl ?_
  refine z_sipush X 3200 dX13_init_1218 rfl ?_
  refine zx_newI (t0 := 0) (N' := 3200) X K ht0 rfl (by decide) ⟨by omega, by omega⟩ dX13_init_1221 (fun q27 => ?_)
  refine zx_putSF (C := RX13) (T := TX13) (ref := RX13) (ty := .array .int) X K in_X13 tyX13 tyX13_ok nmX13 hc0 54 (by decide) q1254 (fun _ h => h) rfl hn rfl (by decide +kernel) rfl rfl l29 dX13_init_1223 (fun fs30 e30 l30 => ?_)
  refine z_aload_n X 0 dX13_init_1226 rfl ?_
  refine z_sipush X 3200 dX13_init_1227 rfl ?_
  refine zx_newI (t0 := 0) (N' := 3200) X K ht0 rfl (by decide) ⟨by omega, by omega⟩ dX13_init_1230 (fun q28 => ?_)
  refine zx_putSF (C := RX13) (T := TX13) (ref := RX13) (ty := .array .int) X K in_X13 tyX13 tyX13_ok nmX13 hc0 55 (by decide) q1255 (fun _ h => h) rfl hn rfl (by decide +kernel) rfl rfl l30 dX13_init_1232 (fun fs31 e31 l31 => ?_)
  refine z_aload_n X 0 dX13_init_1235 rfl ?_
  refine z_sipush X 3200 dX13_init_1236 rfl ?_
  refine zx_newI (t0 := 0) (N' := 3200) X K ht0 rfl (by decide) ⟨by omega, by omega⟩ dX13_init_1239 (fun q29 => ?_)
  refine zx_putSF (C := RX13) (T := TX13) (ref := RX13) (ty := .array .int) X K in_X13 tyX13 tyX13_ok nmX13 hc0 56 (by decide) q1256 (fun _ h => h) rfl hn rfl (by decide +kernel) rfl rfl l31 dX13_init_1241 (fun fs32 e32 l32 => ?_)
  refine z_aload_n X 0 dX13_init_1244 rfl ?_
  refine z_sipush X 3200 dX13_init_1245 rfl ?_
  refine zx_newI (t0 := 0) (N' := 3200) X K ht0 rfl (by decide) ⟨by omega, by omega⟩ dX13_init_1248 (fun q30 => ?_)
  refine zx_putSF (C := RX13) (T := TX13) (ref := RX13) (ty := .array .int) X K in_X13 tyX13 tyX13_ok nmX13 hc0 57 (by decide) q1257 (fun _ h => h) rfl hn rfl (by decide +kernel) rfl rfl l32 dX13_init_1250 (fun fs33 e33 l33 => ?_)
  refine z_iconst X 1 dX13_init_1253 ?_
  refine z_istore_nK X K dX13_init_1254 rfl rfl ?_
  refine z_iconst X 0 dX13_init_1255 ?_
  refine z_istore_nK X K dX13_init_1256 rfl rfl ?_
  have efs : fs33 = (jmFS q0 q1 q2 q3 q4 q5 q6 q7 q8 q9 q10 q11 q12 q13 q14 q15 q16 q17 q18 q19 q20 q21 q22 q23 q24 q25 q26 q27 q28 q29 q30) := jm_efs (o := o) e1 e2 e3 e4 e5 e6 e7 e8 e9 e10 e11 e12 e13 e14 e15 e16 e17 e18 e19 e20 e21 e22 e23 e24 e25 e26 e27 e28 e29 e30 e31 e32 e33
  rw [efs]
  have key : ∀ c i : Nat, i + c = 510 → Z Γ 31 129378 σ (jmW ds o q0 q1 q2 q3 q4 q5 q6 q7 q8 q9 q10 q11 q12 q13 q14 q15 q16 q17 q18 q19 q20 q21 q22 q23 q24 q25 q26 q27 q28 q29 q30 (pwP i) (pwD i) tl) 1257 [(2, .int (iz (i : Int))), (1, .int (iz (pwV i))), (0, .ref o)] [] := by
    intro c
    induction c with
    | zero =>
      intro i hi
      have hi : i = 510 := by omega
      subst hi
      refine z_iload_n X 0 dX13_init_1257 rfl ?_
      refine z_sipush X 510 dX13_init_1258 rfl ?_
      refine z_icmp_ge X 1321 dX13_init_1261 (by decide) ⟨by decide, by decide⟩ ⟨by decide, by decide⟩ (fun _ => ?_) (fun q => absurd q (by decide))
      exact R _ _ _ _ _ _ dX13_init_1321 (Nat.le_refl _) (Nat.le_refl _) ⟨_, _, _, _, _, _, _, _, _, _, _, _, _, _, _, _, _, _, _, _, _, _, _, _, _, _, _, _, _, _, _, rfl⟩
    | succ c ih =>
      intro i hi
      have hv := pwV_in i
      have hz : InR (i : Int) := ⟨by omega, by omega⟩
      have hzv : InR (pwV i) := ⟨by omega, by omega⟩
      have hzw : InR (pwV i * 2) := ⟨by omega, by omega⟩
      refine z_iload_n X 0 dX13_init_1257 rfl ?_
      refine z_sipush X 510 dX13_init_1258 rfl ?_
      refine z_icmp_ge X 1321 dX13_init_1261 (by decide) hz ⟨by decide, by decide⟩ (fun q => absurd q (by omega)) (fun _ => ?_)
      refine z_aload_n X 2 dX13_init_1264 rfl ?_
      refine zx_get (C := RX13) (T := TX13) (N0 := 61) (ref := RX13) X K in_X13 0 rfl hc0 7 (by decide) q1207 (fun _ h => h) rfl dX13_init_1265 ?_
      refine z_iload_n X 0 dX13_init_1268 rfl ?_
      refine z_iload_n X 1 dX13_init_1269 rfl ?_
      refine zx_astI X K 25 0 rfl ht0 (by decide) ⟨by omega, by omega⟩ dX13_init_1270 ?_
      have tail : Z Γ 31 129378 σ (jmW ds o q0 q1 q2 q3 q4 q5 q6 q7 q8 q9 q10 q11 q12 q13 q14 q15 q16 q17 q18 q19 q20 q21 q22 q23 q24 q25 q26 q27 q28 q29 q30 (pwP (i + 1)) (pwD (i + 1)) tl) 1294 [(2, .int (iz (i : Int))), (1, .int (iz (pwV i))), (0, .ref o)] [] := by
        have h1 := ih (i + 1) (by omega)
        refine z_iload_n X 1 dX13_init_1294 rfl ?_
        refine z_iconst X 1 dX13_init_1295 ?_
        refine z_ishlm X 1 (M := 2) rfl rfl rfl dX13_init_1296 ?_
        refine z_istore_nK X K dX13_init_1297 rfl rfl ?_
        refine z_iload_n X 0 dX13_init_1298 rfl ?_
        refine z_sipush X 255 dX13_init_1299 rfl ?_
        refine z_icmp_le X 1313 dX13_init_1302 (by decide) hzw ⟨by decide, by decide⟩ (fun q => ?_) (fun q => ?_)
        · have e : pwV (i + 1) = pwV i * 2 := if_pos q
          refine z_iload_n X 0 dX13_init_1313 rfl ?_
          refine z_istore_nK X K dX13_init_1314 rfl rfl ?_
          refine z_iincK X K 1 dX13_init_1315 rfl rfl rfl ?_
          refine z_goto X (tgt := 1257) dX13_init_1318 (by decide) ?_
          rw [e] at h1
          exact h1
        · have e : pwV (i + 1) = zxor (pwV i * 2) 301 := if_neg (by omega)
          refine z_iload_n X 0 dX13_init_1305 rfl ?_
          refine z_sipush X 301 dX13_init_1306 rfl ?_
          refine z_ixor X dX13_init_1309 ?_
          refine z_goto X (tgt := 1314) dX13_init_1310 (by decide) ?_
          refine z_istore_nK X K dX13_init_1314 rfl rfl ?_
          refine z_iincK X K 1 dX13_init_1315 rfl rfl rfl ?_
          refine z_goto X (tgt := 1257) dX13_init_1318 (by decide) ?_
          rw [e] at h1
          exact h1
      refine z_aload_n X 2 dX13_init_1271 rfl ?_
      refine zx_get (C := RX13) (T := TX13) (N0 := 61) (ref := RX13) X K in_X13 0 rfl hc0 8 (by decide) q1208 (fun _ h => h) rfl dX13_init_1272 ?_
      refine z_iload_n X 1 dX13_init_1275 rfl ?_
      refine z_iload_n X 0 dX13_init_1276 rfl ?_
      refine z_sipush X 255 dX13_init_1277 rfl ?_
      refine z_icmp_ge X 1287 dX13_init_1280 (by decide) hz ⟨by decide, by decide⟩ (fun q => ?_) (fun q => ?_)
      · have e : pwD (i + 1) = fun j => if j = pwV i then pwD i (pwV i) else pwD i j := by
          show (fun j => if j = pwV i then (if (i : Int) < 255 then (i : Int) else pwD i (pwV i)) else pwD i j) = _
          rw [if_neg (by omega)]
        refine z_aload_n X 2 dX13_init_1287 rfl ?_
        refine zx_get (C := RX13) (T := TX13) (N0 := 61) (ref := RX13) X K in_X13 0 rfl hc0 8 (by decide) q1208 (fun _ h => h) rfl dX13_init_1288 ?_
        refine z_iload_n X 1 dX13_init_1291 rfl ?_
        refine zx_aldI (f := pwD i) X K 24 0 rfl ht0 (by decide) ⟨by omega, by omega⟩ dX13_init_1292 ?_
        refine zx_astI (f := pwD i) X K 24 0 rfl ht0 (by decide) ⟨by omega, by omega⟩ dX13_init_1293 ?_
        rw [e] at tail
        exact tail
      · have e : pwD (i + 1) = fun j => if j = pwV i then (i : Int) else pwD i j := by
          show (fun j => if j = pwV i then (if (i : Int) < 255 then (i : Int) else pwD i (pwV i)) else pwD i j) = _
          rw [if_pos q]
        refine z_iload_n X 0 dX13_init_1283 rfl ?_
        refine z_goto X (tgt := 1293) dX13_init_1284 (by decide) ?_
        refine zx_astI (f := pwD i) X K 24 0 rfl ht0 (by decide) ⟨by omega, by omega⟩ dX13_init_1293 ?_
        rw [e] at tail
        exact tail
  refine z_kn (k' := 31) (n' := 129378) rfl rfl ?_
  exact key 510 0 rfl
