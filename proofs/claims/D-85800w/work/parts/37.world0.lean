/-! WORLD0: the plain form behind its constructor, as a world of cells -/
def jmS (fp fd : Int → Int) : ZS := fun q i => match q with
  | 0 => if i = 12 then (-1) else if i = 18 then (-1) else 0
  | 1 => jfq0 i
  | 2 => jfq1 i
  | 3 => jfq2 i
  | 4 => jfq3 i
  | 5 => jfq4 i
  | 6 => jfq5 i
  | 7 => fp i
  | 8 => fd i
  | _ => 0
set_option maxRecDepth 100000 in
theorem jm_world {D : va_G} {cr : List vw_C} {ds : Nat → ClassId} (o q0 q1 q2 q3 q4 q5 q6 q7 q8 q9 q10 q11 q12 q13 q14 q15 q16 q17 q18 q19 q20 q21 q22 q23 q24 q25 q26 q27 q28 q29 q30 : Nat) (fp fd : Int → Int) : (jmW ds o q0 q1 q2 q3 q4 q5 q6 q7 q8 q9 q10 q11 q12 q13 q14 q15 q16 q17 q18 q19 q20 q21 q22 q23 q24 q25 q26 q27 q28 q29 q30 fp fd []).Perm (zt_W (ΘM D cr ds (fun q => ([o, q0, q1, q2, q3, q4, q5, q6, q7, q8, q9, q10, q11, q12, q13, q14, q15, q16, q17, q18, q19, q20, q21, q22, q23, q24, q25, q26, q27, q28, q29, q30] : List Nat).getD q 0)) (jmS fp fd) []) := by
  refine List.Perm.cons _ ?_
  exact List.reverse_perm [jNu (ds 0) q0 30 jfq0, jNu (ds 0) q1 30 jfq1, jNu (ds 0) q2 30 jfq2, jNu (ds 0) q3 30 jfq3, jNu (ds 0) q4 30 jfq4, jNu (ds 0) q5 30 jfq5, jNu (ds 0) q6 512 fp, jNu (ds 0) q7 256 fd, jNu (ds 0) q8 3200 (fun _ => 0), jNu (ds 0) q9 17424 (fun _ => 0), jNu (ds 0) q10 17424 (fun _ => 0), jNu (ds 1) q11 20736 (fun _ => 0), jNu (ds 0) q12 2178 (fun _ => 0), jNu (ds 0) q13 70 (fun _ => 0), jNu (ds 0) q14 70 (fun _ => 0), jNu (ds 0) q15 70 (fun _ => 0), jNu (ds 0) q16 256 (fun _ => 0), jNu (ds 0) q17 1260 (fun _ => 0), jNu (ds 0) q18 36 (fun _ => 0), jNu (ds 0) q19 36 (fun _ => 0), jNu (ds 0) q20 4000 (fun _ => 0), jNu (ds 0) q21 4000 (fun _ => 0), jNu (ds 0) q22 22407 (fun _ => 0), jNu (ds 0) q23 22407 (fun _ => 0), jNu (ds 0) q24 26 (fun _ => 0), jNu (ds 0) q25 26 (fun _ => 0), jNu (ds 0) q26 4 (fun _ => 0), jNu (ds 0) q27 3200 (fun _ => 0), jNu (ds 0) q28 3200 (fun _ => 0), jNu (ds 0) q29 3200 (fun _ => 0), jNu (ds 0) q30 3200 (fun _ => 0)]
