/-! the symbol's constructor (printed by tools/walkgenS.py) -/
def syC (s : Int) : Int := if s < 24 then tbR s else tbW (s - 24)
def syD (s : Int) : Int := if 24 ≤ s then 1 else if tbR s < 32 then 1 else if tbR s < 64 then 2 else if tbR s < 120 then 4 else 6
def syA (s : Int) : Int := if s < 24 then syD s else tbB (s - 24)
def syB (s : Int) : Int := if s = 23 then 10 else if s = 22 then 8 else if s = 20 ∨ s = 21 then 6 else if 16 ≤ s ∧ s ≤ 19 then 4 else if s = 14 ∨ s = 15 then 2 else 1
theorem sy_in (s : Int) (hs : 0 ≤ s ∧ s < 30) : 0 ≤ tbR s ∧ tbR s ≤ 200 ∧ 0 ≤ (tbR s - 2 * syD s) * (syC s - 2 * syA s) ∧ (tbR s - 2 * syD s) * (syC s - 2 * syA s) ≤ 100000 := by
  have h : ∀ j : Nat, j < 30 → 0 ≤ tbR (j : Int) ∧ tbR (j : Int) ≤ 200 ∧ 0 ≤ (tbR (j : Int) - 2 * syD (j : Int)) * (syC (j : Int) - 2 * syA (j : Int)) ∧ (tbR (j : Int) - 2 * syD (j : Int)) * (syC (j : Int) - 2 * syA (j : Int)) ≤ 100000 := by decide +kernel
  have h1 := h s.toNat (by omega)
  rwa [Int.toNat_of_nonneg hs.1] at h1
/-- a symbol's fields -/
abbrev syFS (s : Int) : List Value := [.int (iz s), .int (iz (tbR s)), .int (iz (syC s)), .int (iz (syD s)), .int (iz (syA s)), .int (iz (tbR s - 2 * syD s)), .int (iz (syC s - 2 * syA s)), .int (iz ((tbR s - 2 * syD s) * (syC s - 2 * syA s) / 8)), .int (iz (tbC s)), .int (iz ((tbR s - 2 * syD s) * (syC s - 2 * syA s) / 8 - tbC s)), .int (iz (syB s))]
set_option maxRecDepth 100000 in
theorem ji_X5_init {l : Launch} {Θ : ZTh} {ds : Nat → ClassId} {δ : Nat × Nat} {τ : Nat → Nat} {σ : ZS} {tl : va_W} (hT : zt_cl Θ = (RX13, TX13, 61) :: clC) (o : Nat) (s : Int) (hs : 0 ≤ s ∧ s < 30) : ZDVE l (zR Θ) (ds 5) δ (zTab τ) yX5_init cX5_init 2 1 30 0 0 [.ref o, .int (iz s)] σ ((o, .inr (2, [.int (iz 0), .int (iz 0), .int (iz 0), .int (iz 0), .int (iz 0), .int (iz 0), .int (iz 0), .int (iz 0), .int (iz 0), .int (iz 0), .int (iz 0)])) :: tl) (fun _ ys => ys = (o, .inr (2, syFS s)) :: tl) := by
  refine ZDVE.ofI (by decide) (Nat.le_of_ble_eq_true rfl) (fun Γ X K E S hn R => ?_)
  have hc0 : (zt_cl (zR Θ))[2]? = some (RX5, TX5, 11) := by
    show (zt_cl Θ)[2]? = _
    rw [hT]
    rfl
  have hb := sy_in s hs
  have hz : InR s := ⟨by omega, by omega⟩
  have hr : InR (tbR s) := ⟨by omega, by omega⟩
  have j260 : Z Γ 0 0 σ ((o, .inr (2, [.int (iz s), .int (iz (tbR s)), .int (iz (syC s)), .int (iz (syD s)), .int (iz (syA s)), .int (iz (tbR s - 2 * syD s)), .int (iz (syC s - 2 * syA s)), .int (iz ((tbR s - 2 * syD s) * (syC s - 2 * syA s) / 8)), .int (iz (tbC s)), .int (iz ((tbR s - 2 * syD s) * (syC s - 2 * syA s) / 8 - tbC s)), .int (iz 0)])) :: tl) 260 [(0, .ref o), (1, .int (iz s))] [.int (iz (syB s)), .ref o] := by
    refine zx_putF (C := RX5) (T := TX5) (N0 := 11) (ref := RX5) (ty := .int) X K in_X5 tyX5 tyX5_ok nmX5 0 rfl hc0 10 (by decide) q309 (fun _ h => h) rfl hn rfl (by decide +kernel) rfl rfl (Nat.le_of_ble_eq_true rfl) dX5_init_260 ?_
    show Z Γ 0 0 σ ((o, .inr (2, [.int (iz s), .int (iz (tbR s)), .int (iz (syC s)), .int (iz (syD s)), .int (iz (syA s)), .int (iz (tbR s - 2 * syD s)), .int (iz (syC s - 2 * syA s)), .int (iz ((tbR s - 2 * syD s) * (syC s - 2 * syA s) / 8)), .int (iz (tbC s)), .int (iz ((tbR s - 2 * syD s) * (syC s - 2 * syA s) / 8 - tbC s)), .int (iz (syB s))])) :: tl) 263 [(0, .ref o), (1, .int (iz s))] []
    exact R _ _ _ _ _ _ dX5_init_263 (Nat.le_refl _) (Nat.le_refl _) rfl
  have j116 : Z Γ 0 0 σ ((o, .inr (2, [.int (iz s), .int (iz (tbR s)), .int (iz (syC s)), .int (iz (syD s)), .int (iz 0), .int (iz 0), .int (iz 0), .int (iz 0), .int (iz 0), .int (iz 0), .int (iz 0)])) :: tl) 116 [(0, .ref o), (1, .int (iz s))] [.int (iz (syA s)), .ref o] := by
    refine zx_putF (C := RX5) (T := TX5) (N0 := 11) (ref := RX5) (ty := .int) X K in_X5 tyX5 tyX5_ok nmX5 0 rfl hc0 4 (by decide) q296 (fun _ h => h) rfl hn rfl (by decide +kernel) rfl rfl (Nat.le_of_ble_eq_true rfl) dX5_init_116 ?_
    show Z Γ 0 0 σ ((o, .inr (2, [.int (iz s), .int (iz (tbR s)), .int (iz (syC s)), .int (iz (syD s)), .int (iz (syA s)), .int (iz 0), .int (iz 0), .int (iz 0), .int (iz 0), .int (iz 0), .int (iz 0)])) :: tl) 119 [(0, .ref o), (1, .int (iz s))] []
    refine z_aload_n X 0 dX5_init_119 rfl ?_
    refine z_aload_n X 0 dX5_init_120 rfl ?_
    refine zx_get (C := RX5) (T := TX5) (N0 := 11) (ref := RX5) X K in_X5 0 rfl hc0 1 (by decide) q291 (fun _ h => h) rfl dX5_init_121 ?_
    refine z_iconst X 2 dX5_init_124 ?_
    refine z_aload_n X 0 dX5_init_125 rfl ?_
    refine zx_get (C := RX5) (T := TX5) (N0 := 11) (ref := RX5) X K in_X5 0 rfl hc0 3 (by decide) q295 (fun _ h => h) rfl dX5_init_126 ?_
    refine z_imul X dX5_init_129 ?_
    refine z_isub X dX5_init_130 ?_
    refine zx_putF (C := RX5) (T := TX5) (N0 := 11) (ref := RX5) (ty := .int) X K in_X5 tyX5 tyX5_ok nmX5 0 rfl hc0 5 (by decide) q297 (fun _ h => h) rfl hn rfl (by decide +kernel) rfl rfl (Nat.le_of_ble_eq_true rfl) dX5_init_131 ?_
    show Z Γ 0 0 σ ((o, .inr (2, [.int (iz s), .int (iz (tbR s)), .int (iz (syC s)), .int (iz (syD s)), .int (iz (syA s)), .int (iz ((tbR s) - (2 * (syD s)))), .int (iz 0), .int (iz 0), .int (iz 0), .int (iz 0), .int (iz 0)])) :: tl) 134 [(0, .ref o), (1, .int (iz s))] []
    refine z_aload_n X 0 dX5_init_134 rfl ?_
    refine z_aload_n X 0 dX5_init_135 rfl ?_
    refine zx_get (C := RX5) (T := TX5) (N0 := 11) (ref := RX5) X K in_X5 0 rfl hc0 2 (by decide) q293 (fun _ h => h) rfl dX5_init_136 ?_
    refine z_iconst X 2 dX5_init_139 ?_
    refine z_aload_n X 0 dX5_init_140 rfl ?_
    refine zx_get (C := RX5) (T := TX5) (N0 := 11) (ref := RX5) X K in_X5 0 rfl hc0 4 (by decide) q296 (fun _ h => h) rfl dX5_init_141 ?_
    refine z_imul X dX5_init_144 ?_
    refine z_isub X dX5_init_145 ?_
    refine zx_putF (C := RX5) (T := TX5) (N0 := 11) (ref := RX5) (ty := .int) X K in_X5 tyX5 tyX5_ok nmX5 0 rfl hc0 6 (by decide) q300 (fun _ h => h) rfl hn rfl (by decide +kernel) rfl rfl (Nat.le_of_ble_eq_true rfl) dX5_init_146 ?_
    show Z Γ 0 0 σ ((o, .inr (2, [.int (iz s), .int (iz (tbR s)), .int (iz (syC s)), .int (iz (syD s)), .int (iz (syA s)), .int (iz ((tbR s) - (2 * (syD s)))), .int (iz ((syC s) - (2 * (syA s)))), .int (iz 0), .int (iz 0), .int (iz 0), .int (iz 0)])) :: tl) 149 [(0, .ref o), (1, .int (iz s))] []
    refine z_aload_n X 0 dX5_init_149 rfl ?_
    refine z_aload_n X 0 dX5_init_150 rfl ?_
    refine zx_get (C := RX5) (T := TX5) (N0 := 11) (ref := RX5) X K in_X5 0 rfl hc0 5 (by decide) q297 (fun _ h => h) rfl dX5_init_151 ?_
    refine z_aload_n X 0 dX5_init_154 rfl ?_
    refine zx_get (C := RX5) (T := TX5) (N0 := 11) (ref := RX5) X K in_X5 0 rfl hc0 6 (by decide) q300 (fun _ h => h) rfl dX5_init_155 ?_
    refine z_imul X dX5_init_158 ?_
    refine z_bipush X 8 dX5_init_159 rfl ?_
    refine z_idiv X dX5_init_161 ⟨⟨by omega, by omega⟩, ⟨by decide, by decide⟩, by omega, by decide⟩ ?_
    refine zx_putF (C := RX5) (T := TX5) (N0 := 11) (ref := RX5) (ty := .int) X K in_X5 tyX5 tyX5_ok nmX5 0 rfl hc0 7 (by decide) q303 (fun _ h => h) rfl hn rfl (by decide +kernel) rfl rfl (Nat.le_of_ble_eq_true rfl) dX5_init_162 ?_
    show Z Γ 0 0 σ ((o, .inr (2, [.int (iz s), .int (iz (tbR s)), .int (iz (syC s)), .int (iz (syD s)), .int (iz (syA s)), .int (iz ((tbR s) - (2 * (syD s)))), .int (iz ((syC s) - (2 * (syA s)))), .int (iz ((((tbR s) - (2 * (syD s))) * ((syC s) - (2 * (syA s)))) / 8)), .int (iz 0), .int (iz 0), .int (iz 0)])) :: tl) 165 [(0, .ref o), (1, .int (iz s))] []
    refine z_aload_n X 0 dX5_init_165 rfl ?_
    refine z_getSA X S.2.2.2 q287 dX5_init_166 ?_
    refine z_iload_n X 1 dX5_init_169 rfl ?_
    refine z_aldSA X S.2.2.2 (by decide) ⟨by omega, by omega⟩ dX5_init_170 ?_
    refine zx_putF (C := RX5) (T := TX5) (N0 := 11) (ref := RX5) (ty := .int) X K in_X5 tyX5 tyX5_ok nmX5 0 rfl hc0 8 (by decide) q305 (fun _ h => h) rfl hn rfl (by decide +kernel) rfl rfl (Nat.le_of_ble_eq_true rfl) dX5_init_171 ?_
    show Z Γ 0 0 σ ((o, .inr (2, [.int (iz s), .int (iz (tbR s)), .int (iz (syC s)), .int (iz (syD s)), .int (iz (syA s)), .int (iz ((tbR s) - (2 * (syD s)))), .int (iz ((syC s) - (2 * (syA s)))), .int (iz ((((tbR s) - (2 * (syD s))) * ((syC s) - (2 * (syA s)))) / 8)), .int (iz (tbC s)), .int (iz 0), .int (iz 0)])) :: tl) 174 [(0, .ref o), (1, .int (iz s))] []
    refine z_aload_n X 0 dX5_init_174 rfl ?_
    refine z_aload_n X 0 dX5_init_175 rfl ?_
    refine zx_get (C := RX5) (T := TX5) (N0 := 11) (ref := RX5) X K in_X5 0 rfl hc0 7 (by decide) q303 (fun _ h => h) rfl dX5_init_176 ?_
    refine z_aload_n X 0 dX5_init_179 rfl ?_
    refine zx_get (C := RX5) (T := TX5) (N0 := 11) (ref := RX5) X K in_X5 0 rfl hc0 8 (by decide) q305 (fun _ h => h) rfl dX5_init_180 ?_
    refine z_isub X dX5_init_183 ?_
    refine zx_putF (C := RX5) (T := TX5) (N0 := 11) (ref := RX5) (ty := .int) X K in_X5 tyX5 tyX5_ok nmX5 0 rfl hc0 9 (by decide) q307 (fun _ h => h) rfl hn rfl (by decide +kernel) rfl rfl (Nat.le_of_ble_eq_true rfl) dX5_init_184 ?_
    show Z Γ 0 0 σ ((o, .inr (2, [.int (iz s), .int (iz (tbR s)), .int (iz (syC s)), .int (iz (syD s)), .int (iz (syA s)), .int (iz ((tbR s) - (2 * (syD s)))), .int (iz ((syC s) - (2 * (syA s)))), .int (iz ((((tbR s) - (2 * (syD s))) * ((syC s) - (2 * (syA s)))) / 8)), .int (iz (tbC s)), .int (iz (((((tbR s) - (2 * (syD s))) * ((syC s) - (2 * (syA s)))) / 8) - (tbC s))), .int (iz 0)])) :: tl) 187 [(0, .ref o), (1, .int (iz s))] []
    refine z_aload_n X 0 dX5_init_187 rfl ?_
    refine z_iload_n X 1 dX5_init_188 rfl ?_
    refine z_bipush X 23 dX5_init_189 rfl ?_
    refine z_icmp_ne X 199 dX5_init_191 (by decide) hz ⟨by decide, by decide⟩ (fun q => ?_) (fun q => ?_)
    · skip
      refine z_iload_n X 1 dX5_init_199 rfl ?_
      refine z_bipush X 22 dX5_init_200 rfl ?_
      refine z_icmp_ne X 210 dX5_init_202 (by decide) hz ⟨by decide, by decide⟩ (fun q => ?_) (fun q => ?_)
      · skip
        refine z_iload_n X 1 dX5_init_210 rfl ?_
        refine z_bipush X 20 dX5_init_211 rfl ?_
        refine z_icmp_eq X 222 dX5_init_213 (by decide) hz ⟨by decide, by decide⟩ (fun q => ?_) (fun q => ?_)
        · skip
          refine z_bipush X 6 dX5_init_222 rfl ?_
          refine z_goto X (tgt := 260) dX5_init_224 (by decide) ?_
          have e : syB s = 6 := by
            unfold syB
            (repeat' split) <;> omega
          rw [e] at j260
          exact j260
        · skip
          refine z_iload_n X 1 dX5_init_216 rfl ?_
          refine z_bipush X 21 dX5_init_217 rfl ?_
          refine z_icmp_ne X 227 dX5_init_219 (by decide) hz ⟨by decide, by decide⟩ (fun q => ?_) (fun q => ?_)
          · skip
            refine z_iload_n X 1 dX5_init_227 rfl ?_
            refine z_bipush X 16 dX5_init_228 rfl ?_
            refine z_icmp_lt X 243 dX5_init_230 (by decide) hz ⟨by decide, by decide⟩ (fun q => ?_) (fun q => ?_)
            · skip
              refine z_iload_n X 1 dX5_init_243 rfl ?_
              refine z_bipush X 14 dX5_init_244 rfl ?_
              refine z_icmp_eq X 255 dX5_init_246 (by decide) hz ⟨by decide, by decide⟩ (fun q => ?_) (fun q => ?_)
              · skip
                refine z_iconst X 2 dX5_init_255 ?_
                refine z_goto X (tgt := 260) dX5_init_256 (by decide) ?_
                have e : syB s = 2 := by
                  unfold syB
                  (repeat' split) <;> omega
                rw [e] at j260
                exact j260
              · skip
                refine z_iload_n X 1 dX5_init_249 rfl ?_
                refine z_bipush X 15 dX5_init_250 rfl ?_
                refine z_icmp_ne X 259 dX5_init_252 (by decide) hz ⟨by decide, by decide⟩ (fun q => ?_) (fun q => ?_)
                · skip
                  refine z_iconst X 1 dX5_init_259 ?_
                  have e : syB s = 1 := by
                    unfold syB
                    (repeat' split) <;> omega
                  rw [e] at j260
                  exact j260
                · skip
                  refine z_iconst X 2 dX5_init_255 ?_
                  refine z_goto X (tgt := 260) dX5_init_256 (by decide) ?_
                  have e : syB s = 2 := by
                    unfold syB
                    (repeat' split) <;> omega
                  rw [e] at j260
                  exact j260
            · skip
              refine z_iload_n X 1 dX5_init_233 rfl ?_
              refine z_bipush X 19 dX5_init_234 rfl ?_
              refine z_icmp_gt X 243 dX5_init_236 (by decide) hz ⟨by decide, by decide⟩ (fun q => ?_) (fun q => ?_)
              · skip
                refine z_iload_n X 1 dX5_init_243 rfl ?_
                refine z_bipush X 14 dX5_init_244 rfl ?_
                refine z_icmp_eq X 255 dX5_init_246 (by decide) hz ⟨by decide, by decide⟩ (fun q => ?_) (fun q => ?_)
                · skip
                  refine z_iconst X 2 dX5_init_255 ?_
                  refine z_goto X (tgt := 260) dX5_init_256 (by decide) ?_
                  have e : syB s = 2 := by
                    unfold syB
                    (repeat' split) <;> omega
                  rw [e] at j260
                  exact j260
                · skip
                  refine z_iload_n X 1 dX5_init_249 rfl ?_
                  refine z_bipush X 15 dX5_init_250 rfl ?_
                  refine z_icmp_ne X 259 dX5_init_252 (by decide) hz ⟨by decide, by decide⟩ (fun q => ?_) (fun q => ?_)
                  · skip
                    refine z_iconst X 1 dX5_init_259 ?_
                    have e : syB s = 1 := by
                      unfold syB
                      (repeat' split) <;> omega
                    rw [e] at j260
                    exact j260
                  · skip
                    refine z_iconst X 2 dX5_init_255 ?_
                    refine z_goto X (tgt := 260) dX5_init_256 (by decide) ?_
                    have e : syB s = 2 := by
                      unfold syB
                      (repeat' split) <;> omega
                    rw [e] at j260
                    exact j260
              · skip
                refine z_iconst X 4 dX5_init_239 ?_
                refine z_goto X (tgt := 260) dX5_init_240 (by decide) ?_
                have e : syB s = 4 := by
                  unfold syB
                  (repeat' split) <;> omega
                rw [e] at j260
                exact j260
          · skip
            refine z_bipush X 6 dX5_init_222 rfl ?_
            refine z_goto X (tgt := 260) dX5_init_224 (by decide) ?_
            have e : syB s = 6 := by
              unfold syB
              (repeat' split) <;> omega
            rw [e] at j260
            exact j260
      · skip
        refine z_bipush X 8 dX5_init_205 rfl ?_
        refine z_goto X (tgt := 260) dX5_init_207 (by decide) ?_
        have e : syB s = 8 := by
          unfold syB
          (repeat' split) <;> omega
        rw [e] at j260
        exact j260
    · skip
      refine z_bipush X 10 dX5_init_194 rfl ?_
      refine z_goto X (tgt := 260) dX5_init_196 (by decide) ?_
      have e : syB s = 10 := by
        unfold syB
        (repeat' split) <;> omega
      rw [e] at j260
      exact j260
  have j91 : Z Γ 0 0 σ ((o, .inr (2, [.int (iz s), .int (iz (tbR s)), .int (iz (syC s)), .int (iz 0), .int (iz 0), .int (iz 0), .int (iz 0), .int (iz 0), .int (iz 0), .int (iz 0), .int (iz 0)])) :: tl) 91 [(0, .ref o), (1, .int (iz s))] [.int (iz (syD s)), .ref o] := by
    refine zx_putF (C := RX5) (T := TX5) (N0 := 11) (ref := RX5) (ty := .int) X K in_X5 tyX5 tyX5_ok nmX5 0 rfl hc0 3 (by decide) q295 (fun _ h => h) rfl hn rfl (by decide +kernel) rfl rfl (Nat.le_of_ble_eq_true rfl) dX5_init_91 ?_
    show Z Γ 0 0 σ ((o, .inr (2, [.int (iz s), .int (iz (tbR s)), .int (iz (syC s)), .int (iz (syD s)), .int (iz 0), .int (iz 0), .int (iz 0), .int (iz 0), .int (iz 0), .int (iz 0), .int (iz 0)])) :: tl) 94 [(0, .ref o), (1, .int (iz s))] []
    refine z_aload_n X 0 dX5_init_94 rfl ?_
    refine z_iload_n X 1 dX5_init_95 rfl ?_
    refine z_bipush X 24 dX5_init_96 rfl ?_
    refine z_icmp_ge X 108 dX5_init_98 (by decide) hz ⟨by decide, by decide⟩ (fun q => ?_) (fun q => ?_)
    · skip
      refine z_getSA X S.2.2.1 q285 dX5_init_108 ?_
      refine z_iload_n X 1 dX5_init_111 rfl ?_
      refine z_bipush X 24 dX5_init_112 rfl ?_
      refine z_isub X dX5_init_114 ?_
      refine z_aldSA X S.2.2.1 (by decide) ⟨by omega, by omega⟩ dX5_init_115 ?_
      have e : syA s = tbB (s - 24) := by
        unfold syA
        (repeat' split) <;> omega
      rw [e] at j116
      exact j116
    · skip
      refine z_aload_n X 0 dX5_init_101 rfl ?_
      refine zx_get (C := RX5) (T := TX5) (N0 := 11) (ref := RX5) X K in_X5 0 rfl hc0 3 (by decide) q295 (fun _ h => h) rfl dX5_init_102 ?_
      refine z_goto X (tgt := 116) dX5_init_105 (by decide) ?_
      have e : syA s = syD s := by
        unfold syA
        (repeat' split) <;> omega
      rw [e] at j116
      exact j116
  have j40 : Z Γ 0 0 σ ((o, .inr (2, [.int (iz s), .int (iz (tbR s)), .int (iz 0), .int (iz 0), .int (iz 0), .int (iz 0), .int (iz 0), .int (iz 0), .int (iz 0), .int (iz 0), .int (iz 0)])) :: tl) 40 [(0, .ref o), (1, .int (iz s))] [.int (iz (syC s)), .ref o] := by
    refine zx_putF (C := RX5) (T := TX5) (N0 := 11) (ref := RX5) (ty := .int) X K in_X5 tyX5 tyX5_ok nmX5 0 rfl hc0 2 (by decide) q293 (fun _ h => h) rfl hn rfl (by decide +kernel) rfl rfl (Nat.le_of_ble_eq_true rfl) dX5_init_40 ?_
    show Z Γ 0 0 σ ((o, .inr (2, [.int (iz s), .int (iz (tbR s)), .int (iz (syC s)), .int (iz 0), .int (iz 0), .int (iz 0), .int (iz 0), .int (iz 0), .int (iz 0), .int (iz 0), .int (iz 0)])) :: tl) 43 [(0, .ref o), (1, .int (iz s))] []
    refine z_aload_n X 0 dX5_init_43 rfl ?_
    refine z_iload_n X 1 dX5_init_44 rfl ?_
    refine z_bipush X 24 dX5_init_45 rfl ?_
    refine z_icmp_ge X 59 dX5_init_47 (by decide) hz ⟨by decide, by decide⟩ (fun q => ?_) (fun q => ?_)
    · skip
      refine z_iconst X 1 dX5_init_59 ?_
      refine z_goto X (tgt := 91) dX5_init_60 (by decide) ?_
      have e : syD s = 1 := by
        unfold syD
        (repeat' split) <;> omega
      rw [e] at j91
      exact j91
    · skip
      refine z_aload_n X 0 dX5_init_50 rfl ?_
      refine zx_get (C := RX5) (T := TX5) (N0 := 11) (ref := RX5) X K in_X5 0 rfl hc0 1 (by decide) q291 (fun _ h => h) rfl dX5_init_51 ?_
      refine z_bipush X 32 dX5_init_54 rfl ?_
      refine z_icmp_ge X 63 dX5_init_56 (by decide) hr ⟨by decide, by decide⟩ (fun q => ?_) (fun q => ?_)
      · skip
        refine z_aload_n X 0 dX5_init_63 rfl ?_
        refine zx_get (C := RX5) (T := TX5) (N0 := 11) (ref := RX5) X K in_X5 0 rfl hc0 1 (by decide) q291 (fun _ h => h) rfl dX5_init_64 ?_
        refine z_bipush X 64 dX5_init_67 rfl ?_
        refine z_icmp_ge X 76 dX5_init_69 (by decide) hr ⟨by decide, by decide⟩ (fun q => ?_) (fun q => ?_)
        · skip
          refine z_aload_n X 0 dX5_init_76 rfl ?_
          refine zx_get (C := RX5) (T := TX5) (N0 := 11) (ref := RX5) X K in_X5 0 rfl hc0 1 (by decide) q291 (fun _ h => h) rfl dX5_init_77 ?_
          refine z_bipush X 120 dX5_init_80 rfl ?_
          refine z_icmp_ge X 89 dX5_init_82 (by decide) hr ⟨by decide, by decide⟩ (fun q => ?_) (fun q => ?_)
          · skip
            refine z_bipush X 6 dX5_init_89 rfl ?_
            have e : syD s = 6 := by
              unfold syD
              (repeat' split) <;> omega
            rw [e] at j91
            exact j91
          · skip
            refine z_iconst X 4 dX5_init_85 ?_
            refine z_goto X (tgt := 91) dX5_init_86 (by decide) ?_
            have e : syD s = 4 := by
              unfold syD
              (repeat' split) <;> omega
            rw [e] at j91
            exact j91
        · skip
          refine z_iconst X 2 dX5_init_72 ?_
          refine z_goto X (tgt := 91) dX5_init_73 (by decide) ?_
          have e : syD s = 2 := by
            unfold syD
            (repeat' split) <;> omega
          rw [e] at j91
          exact j91
      · skip
        refine z_iconst X 1 dX5_init_59 ?_
        refine z_goto X (tgt := 91) dX5_init_60 (by decide) ?_
        have e : syD s = 1 := by
          unfold syD
          (repeat' split) <;> omega
        rw [e] at j91
        exact j91
  refine z_aload_n X 0 dX5_init_0 rfl ?_
  refine z_objInit X q280 (Nat.le_of_ble_eq_true rfl) (Nat.le_of_ble_eq_true rfl) dX5_init_1 ?_
  refine z_aload_n X 0 dX5_init_4 rfl ?_
  refine z_iload_n X 1 dX5_init_5 rfl ?_
  refine zx_putF (C := RX5) (T := TX5) (N0 := 11) (ref := RX5) (ty := .int) X K in_X5 tyX5 tyX5_ok nmX5 0 rfl hc0 0 (by decide) q289 (fun _ h => h) rfl hn rfl (by decide +kernel) rfl rfl (Nat.le_of_ble_eq_true rfl) dX5_init_6 ?_
  show Z Γ 0 0 σ ((o, .inr (2, [.int (iz s), .int (iz 0), .int (iz 0), .int (iz 0), .int (iz 0), .int (iz 0), .int (iz 0), .int (iz 0), .int (iz 0), .int (iz 0), .int (iz 0)])) :: tl) 9 [(0, .ref o), (1, .int (iz s))] []
  refine z_aload_n X 0 dX5_init_9 rfl ?_
  refine z_getSA X S.1 q281 dX5_init_10 ?_
  refine z_iload_n X 1 dX5_init_13 rfl ?_
  refine z_aldSA X S.1 (by decide) ⟨by omega, by omega⟩ dX5_init_14 ?_
  refine zx_putF (C := RX5) (T := TX5) (N0 := 11) (ref := RX5) (ty := .int) X K in_X5 tyX5 tyX5_ok nmX5 0 rfl hc0 1 (by decide) q291 (fun _ h => h) rfl hn rfl (by decide +kernel) rfl rfl (Nat.le_of_ble_eq_true rfl) dX5_init_15 ?_
  show Z Γ 0 0 σ ((o, .inr (2, [.int (iz s), .int (iz (tbR s)), .int (iz 0), .int (iz 0), .int (iz 0), .int (iz 0), .int (iz 0), .int (iz 0), .int (iz 0), .int (iz 0), .int (iz 0)])) :: tl) 18 [(0, .ref o), (1, .int (iz s))] []
  refine z_aload_n X 0 dX5_init_18 rfl ?_
  refine z_iload_n X 1 dX5_init_19 rfl ?_
  refine z_bipush X 24 dX5_init_20 rfl ?_
  refine z_icmp_ge X 32 dX5_init_22 (by decide) hz ⟨by decide, by decide⟩ (fun q => ?_) (fun q => ?_)
  · skip
    refine z_getSA X S.2.1 q283 dX5_init_32 ?_
    refine z_iload_n X 1 dX5_init_35 rfl ?_
    refine z_bipush X 24 dX5_init_36 rfl ?_
    refine z_isub X dX5_init_38 ?_
    refine z_aldSA X S.2.1 (by decide) ⟨by omega, by omega⟩ dX5_init_39 ?_
    have e : syC s = tbW (s - 24) := by
      unfold syC
      (repeat' split) <;> omega
    rw [e] at j40
    exact j40
  · skip
    refine z_aload_n X 0 dX5_init_25 rfl ?_
    refine zx_get (C := RX5) (T := TX5) (N0 := 11) (ref := RX5) X K in_X5 0 rfl hc0 1 (by decide) q291 (fun _ h => h) rfl dX5_init_26 ?_
    refine z_goto X (tgt := 40) dX5_init_29 (by decide) ?_
    have e : syC s = tbR s := by
      unfold syC
      (repeat' split) <;> omega
    rw [e] at j40
    exact j40
