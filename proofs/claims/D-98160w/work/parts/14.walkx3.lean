/-! walks of the component: printed by genx.py -/
theorem cpx_X0_lasts : cpV yX0_lasts cX0_lasts 4 (some .int) 2 := ⟨q1413, qs57, q145, q1414, by decide +kernel⟩
set_option maxHeartbeats 4000000 in
set_option maxRecDepth 100000 in
theorem w_X0_lasts {l : Launch} {D : va_G} {cx ro : Nat → Nat} {A : Nat → Prop} {TL SL : Nat}  (σ0 : XS) (th : Nat) (a0 : Option Nat) (a1 : Option Nat) (r : (Int32 × XS)) (hF : X_X0_lasts σ0 th a0 a1 = some r) : xMet l D cx ro A TL SL yX0_lasts cX0_lasts 4 (some .int) 194 false wx_X0_lasts [.ref th, va_rf a0, va_rf a1] σ0 (some (.int r.1)) r.2 := by
  refine x_of (l9 := [(0, some (.ref th)), (1, some (va_rf a0)), (2, some (va_rf a1))]) (by decide) (by cases a0 <;> cases a1 <;> exact Nat.le_of_ble_eq_true rfl) (by cases a0 <;> cases a1 <;> rfl) ?_
  intro p e s m args below meth c ls X K hnm hl hlm
  have ha : agW false wx_X0_lasts σ0 σ0 := agW.rf
  unfold X_X0_lasts at hF
  refine g_aload_n (i := 0) K hl dX0_lasts_0 rfl rfl ?_
  refine xg_X0_12 X hF dX0_lasts_1 (fun t1 hF => ?_)
  refine g_aloadR_n (i := 1) K hl dX0_lasts_4 rfl rfl ?_
  refine g_aloadR_n (i := 2) K hl dX0_lasts_5 rfl rfl ?_
  refine g_iconst K dX0_lasts_6 lc_0 ?_
  have hlZ := hl
  obtain ⟨q2, hq9, ht_q2, hZ⟩ := nnX_i hF
  cases hq9
  have hF := hZ
  clear hZ
  have hl := hlZ
  clear hlZ
  refine x_callW (V := Value.int) hF ha rfl (fun t h => x_rV X hl (w_X1_odds _ _ _ _ _ t h) ht_q2 rfl rfl cpx_X1_odds q1099 rfl rfl rfl rfl (cat_room rfl) dX0_lasts_7) (fun t3 σ4 hF ha => ?_)
  refine g_istore_n (i := 3) K hl dX0_lasts_10 rfl rfl (lkn_rf rfl) (fun ls hl => ?_)
  refine g_iload_n (i := 3) K hl dX0_lasts_11 rfl rfl ?_
  refine g_if_ne (tgt := 21) K hF dX0_lasts_12 (by decide) (fun hF => ?_) (fun hF => ?_)
  · refine g_sipush K dX0_lasts_21 ls_1000 ?_
    refine g_iload_n (i := 3) K hl dX0_lasts_24 rfl rfl ?_
    refine g_idivT K hF dX0_lasts_25 (fun t5 hF => ?_)
    exact x_iretW X hF ha dX0_lasts_26
  · refine g_sipush K dX0_lasts_15 ls_9999 ?_
    refine g_goto (tgt := 26) K dX0_lasts_18 (by decide) ?_
    exact x_iretW X hF ha dX0_lasts_26

theorem cpx_X0_fill : cpV yX0_fill cX0_fill 11 (some .int) 3 := ⟨q1408, q1409, q145, q1410, by decide +kernel⟩
set_option maxHeartbeats 4000000 in
set_option maxRecDepth 100000 in
theorem w_X0_fill {l : Launch} {D : va_G} {cx ro : Nat → Nat} {A : Nat → Prop} {TL SL : Nat} (G : Nat) (σ0 : XS) (th : Nat) (a0 : Int32) (a1 : Int32) (a2 : Int32) (r : (Int32 × XS)) (hF : X_X0_fill G σ0 th a0 a1 a2 = some r) : xMet l D cx ro A TL SL yX0_fill cX0_fill 11 (some .int) 195 false wx_X0_fill [.ref th, .int a0, .int a1, .int a2] σ0 (some (.int r.1)) r.2 := by
  refine x_of (l9 := [(0, some (.ref th)), (1, some (.int a0)), (2, some (.int a1)), (3, some (.int a2))]) (by decide) (by exact Nat.le_of_ble_eq_true rfl) (by rfl) ?_
  intro p e s m args below meth c ls X K hnm hl hlm
  have B68 : ∀ (k39 : XS → Int32 → Int32 → Int32 → Int32 → Int32 → Int32 → Option (Int32 × XS)) (hk39 : (∀ (σ : XS) (x1 : Int32) (x2 : Int32) (x3 : Int32) (x4 : Int32) (x5 : Int32) (x6 : Int32) (ls : Array Slot), k39 σ x1 x2 x3 x4 x5 x6 = some r → agW false wx_X0_fill σ0 σ → lq ls 11 [(0, some (.ref th)), (1, some (.int x1)), (2, some (.int x2)), (3, some (.int x3)), (4, some (.int x4)), (5, some (.int x5)), (6, some (.int x6))] → ZX p l e 195 TL SL s m args below meth c D cx ro A false wx_X0_fill σ0 (some (.int r.1)) r.2 σ (F0 m 39 ls []))) (k68 : XS → Int32 → Int32 → Int32 → Int32 → Int32 → Int32 → Int32 → Int32 → Int32 → Int32 → Option (Int32 × XS)) (hk68 : (∀ (σ : XS) (x1 : Int32) (x2 : Int32) (x3 : Int32) (x4 : Int32) (x5 : Int32) (x6 : Int32) (x7 : Int32) (x8 : Int32) (x9 : Int32) (x10 : Int32) (ls : Array Slot), k68 σ x1 x2 x3 x4 x5 x6 x7 x8 x9 x10 = some r → agW false wx_X0_fill σ0 σ → lq ls 11 [(0, some (.ref th)), (1, some (.int x1)), (2, some (.int x2)), (3, some (.int x3)), (4, some (.int x4)), (5, some (.int x5)), (6, some (.int x6)), (7, some (.int x7)), (8, some (.int x8)), (9, some (.int x9)), (10, some (.int x10))] → ZX p l e 195 TL SL s m args below meth c D cx ro A false wx_X0_fill σ0 (some (.int r.1)) r.2 σ (F0 m 68 ls []))) (σ : XS) (x1 : Int32) (x2 : Int32) (x3 : Int32) (x4 : Int32) (x5 : Int32) (x6 : Int32) (x7 : Int32) (x8 : Int32) (x9 : Int32) (x10 : Int32) (ls : Array Slot), X_X0_fill_B68 G th k39 k68 σ x1 x2 x3 x4 x5 x6 x7 x8 x9 x10 = some r → agW false wx_X0_fill σ0 σ → lq ls 11 [(0, some (.ref th)), (1, some (.int x1)), (2, some (.int x2)), (3, some (.int x3)), (4, some (.int x4)), (5, some (.int x5)), (6, some (.int x6)), (7, some (.int x7)), (8, some (.int x8)), (9, some (.int x9)), (10, some (.int x10))] → ZX p l e 195 TL SL s m args below meth c D cx ro A false wx_X0_fill σ0 (some (.int r.1)) r.2 σ (F0 m 68 ls []) := by
    intro k39 hk39 k68 hk68 σ x1 x2 x3 x4 x5 x6 x7 x8 x9 x10 ls hF ha hl
    unfold X_X0_fill_B68 at hF
    refine g_iload (i := 10) K hl dX0_fill_68 rfl ?_
    refine g_aload_n (i := 0) K hl dX0_fill_70 rfl rfl ?_
    refine xg_X0_12 X hF dX0_fill_71 (fun t1 hF => ?_)
    refine xg_X0_87 X hF dX0_fill_74 (fun t2 hF => ?_)
    have hlZ := hl
    obtain ⟨q3, hq9, ht_q3, hZ⟩ := nnX_i hF
    cases hq9
    have hF := hZ
    clear hZ
    have hl := hlZ
    clear hlZ
    refine x_callP (V := Value.int) hF (fun t h => x_rV X hl (w_J2_size _ _  t h) ht_q3 rfl rfl cpx_J2_size q994 rfl rfl rfl rfl (cat_room rfl) dX0_fill_77) (fun t4 hF => ?_)
    refine g_icmp_ge (tgt := 197) K hF dX0_fill_80 (by decide) (fun hF => ?_) (fun hF => ?_)
    · refine g_iload (i := 9) K hl dX0_fill_197 rfl ?_
      refine g_if_eq (tgt := 226) K hF dX0_fill_199 (by decide) (fun hF => ?_) (fun hF => ?_)
      · refine g_iinc (i := 6) K hl dX0_fill_226 rfl lc_1 rfl rfl (fun ls hl => ?_)
        refine g_goto (tgt := 39) K dX0_fill_229 (by decide) ?_
        exact hk39 _ _ _ _ _ _ _ ls hF ha (lq_sub hl rfl)
      · refine g_iload (i := 7) K hl dX0_fill_202 rfl ?_
        refine g_iload_n (i := 2) K hl dX0_fill_204 rfl rfl ?_
        refine g_icmp_gt (tgt := 226) K hF dX0_fill_205 (by decide) (fun hF => ?_) (fun hF => ?_)
        · refine g_iinc (i := 6) K hl dX0_fill_226 rfl lc_1 rfl rfl (fun ls hl => ?_)
          refine g_goto (tgt := 39) K dX0_fill_229 (by decide) ?_
          exact hk39 _ _ _ _ _ _ _ ls hF ha (lq_sub hl rfl)
        · refine g_iload (i := 8) K hl dX0_fill_208 rfl ?_
          refine g_iload (i := 5) K hl dX0_fill_210 rfl ?_
          refine g_icmp_gt (tgt := 218) K hF dX0_fill_212 (by decide) (fun hF => ?_) (fun hF => ?_)
          · refine g_iload (i := 6) K hl dX0_fill_218 rfl ?_
            refine g_istore (i := 4) K hl dX0_fill_220 rfl rfl (fun ls hl => ?_)
            refine g_iload (i := 8) K hl dX0_fill_222 rfl ?_
            refine g_istore (i := 5) K hl dX0_fill_224 rfl rfl (fun ls hl => ?_)
            refine g_iinc (i := 6) K hl dX0_fill_226 rfl lc_1 rfl rfl (fun ls hl => ?_)
            refine g_goto (tgt := 39) K dX0_fill_229 (by decide) ?_
            exact hk39 _ _ _ _ _ _ _ ls hF ha (lq_sub hl rfl)
          · refine g_goto (tgt := 226) K dX0_fill_215 (by decide) ?_
            refine g_iinc (i := 6) K hl dX0_fill_226 rfl lc_1 rfl rfl (fun ls hl => ?_)
            refine g_goto (tgt := 39) K dX0_fill_229 (by decide) ?_
            exact hk39 _ _ _ _ _ _ _ ls hF ha (lq_sub hl rfl)
    · refine g_iload (i := 6) K hl dX0_fill_83 rfl ?_
      refine g_iload (i := 10) K hl dX0_fill_85 rfl ?_
      refine g_ishr K dX0_fill_87 ?_
      refine g_iconst K dX0_fill_88 lc_1 ?_
      refine g_iand K dX0_fill_89 ?_
      refine g_if_ne (tgt := 96) K hF dX0_fill_90 (by decide) (fun hF => ?_) (fun hF => ?_)
      · refine g_iload (i := 7) K hl dX0_fill_96 rfl ?_
        refine g_aload_n (i := 0) K hl dX0_fill_98 rfl rfl ?_
        refine xg_X0_12 X hF dX0_fill_99 (fun t5 hF => ?_)
        refine xg_X0_87 X hF dX0_fill_102 (fun t6 hF => ?_)
        refine g_iload (i := 10) K hl dX0_fill_105 rfl ?_
        have hlZ := hl
        obtain ⟨q7, hq9, ht_q7, hZ⟩ := nnX_i hF
        cases hq9
        have hF := hZ
        clear hZ
        have hl := hlZ
        clear hlZ
        refine x_callP (V := va_rf) hF (fun t h => x_rV X hl (w_J2_get _ _ _ t h) ht_q7 rfl rfl cpx_J2_get q1010 rfl rfl rfl rfl (cat_room rfl) dX0_fill_107) (fun t8 hF => ?_)
        refine x_cast X hF rfl q1011 dX0_fill_110 (fun hF => ?_)
        refine xg_X0_159 X hF dX0_fill_113 (fun t9 hF => ?_)
        refine g_iadd K dX0_fill_116 ?_
        refine g_istore (i := 7) K hl dX0_fill_117 rfl rfl (fun ls hl => ?_)
        refine g_iload (i := 8) K hl dX0_fill_119 rfl ?_
        refine g_aload_n (i := 0) K hl dX0_fill_121 rfl rfl ?_
        refine g_aload_n (i := 0) K hl dX0_fill_122 rfl rfl ?_
        refine xg_X0_12 X hF dX0_fill_123 (fun t10 hF => ?_)
        refine xg_X0_94 X hF dX0_fill_126 (fun t11 hF => ?_)
        refine g_iload_n (i := 1) K hl dX0_fill_129 rfl rfl ?_
        have hlZ := hl
        obtain ⟨q12, hq9, ht_q12, hZ⟩ := nnX_i hF
        cases hq9
        have hF := hZ
        clear hZ
        have hl := hlZ
        clear hlZ
        refine x_callP (V := va_rf) hF (fun t h => x_rV X hl (w_J2_get _ _ _ t h) ht_q12 rfl rfl cpx_J2_get q1010 rfl rfl rfl rfl (cat_room rfl) dX0_fill_130) (fun t13 hF => ?_)
        refine x_cast X hF rfl q1020 dX0_fill_133 (fun hF => ?_)
        refine g_aload_n (i := 0) K hl dX0_fill_136 rfl rfl ?_
        refine xg_X0_12 X hF dX0_fill_137 (fun t14 hF => ?_)
        refine xg_X0_87 X hF dX0_fill_140 (fun t15 hF => ?_)
        refine g_iload (i := 10) K hl dX0_fill_143 rfl ?_
        have hlZ := hl
        obtain ⟨q16, hq9, ht_q16, hZ⟩ := nnX_i hF
        cases hq9
        have hF := hZ
        clear hZ
        have hl := hlZ
        clear hlZ
        refine x_callP (V := va_rf) hF (fun t h => x_rV X hl (w_J2_get _ _ _ t h) ht_q16 rfl rfl cpx_J2_get q1010 rfl rfl rfl rfl (cat_room rfl) dX0_fill_145) (fun t17 hF => ?_)
        refine x_cast X hF rfl q1011 dX0_fill_148 (fun hF => ?_)
        have hlZ := hl
        obtain ⟨q18, hq9, ht_q18, hZ⟩ := nnX_i hF
        cases hq9
        have hF := hZ
        clear hZ
        have hl := hlZ
        clear hlZ
        refine x_callW (V := Value.int) hF ha rfl (fun t h => x_rV X hl (w_X0_lasts _ _ _ _ t h) ht_q18 rfl rfl cpx_X0_lasts q1411 rfl rfl rfl rfl (cat_room rfl) dX0_fill_151) (fun t19 σ20 hF ha => ?_)
        refine g_iadd K dX0_fill_154 ?_
        refine g_istore (i := 8) K hl dX0_fill_155 rfl rfl (fun ls hl => ?_)
        refine g_iload (i := 9) K hl dX0_fill_157 rfl ?_
        refine g_if_eq (tgt := 188) K hF dX0_fill_159 (by decide) (fun hF => ?_) (fun hF => ?_)
        · refine g_iconst K dX0_fill_188 lc_0 ?_
          refine g_istore (i := 9) K hl dX0_fill_189 rfl rfl (fun ls hl => ?_)
          refine g_iinc (i := 10) K hl dX0_fill_191 rfl lc_1 rfl rfl (fun ls hl => ?_)
          refine g_goto (tgt := 68) K dX0_fill_194 (by decide) ?_
          exact hk68 _ _ _ _ _ _ _ _ _ _ _ ls hF ha (lq_sub hl rfl)
        · refine g_aload_n (i := 0) K hl dX0_fill_162 rfl rfl ?_
          refine xg_X0_12 X hF dX0_fill_163 (fun t21 hF => ?_)
          refine xg_X0_87 X hF dX0_fill_166 (fun t22 hF => ?_)
          refine g_iload (i := 10) K hl dX0_fill_169 rfl ?_
          have hlZ := hl
          obtain ⟨q23, hq9, ht_q23, hZ⟩ := nnX_i hF
          cases hq9
          have hF := hZ
          clear hZ
          have hl := hlZ
          clear hlZ
          refine x_callP (V := va_rf) hF (fun t h => x_rV X hl (w_J2_get _ _ _ t h) ht_q23 rfl rfl cpx_J2_get q1010 rfl rfl rfl rfl (cat_room rfl) dX0_fill_171) (fun t24 hF => ?_)
          refine x_cast X hF rfl q1011 dX0_fill_174 (fun hF => ?_)
          refine xg_X0_153 X hF dX0_fill_177 (fun t25 hF => ?_)
          refine g_iconst K dX0_fill_180 lc_m1 ?_
          refine g_icmp_ne (tgt := 188) K hF dX0_fill_181 (by decide) (fun hF => ?_) (fun hF => ?_)
          · refine g_iconst K dX0_fill_188 lc_0 ?_
            refine g_istore (i := 9) K hl dX0_fill_189 rfl rfl (fun ls hl => ?_)
            refine g_iinc (i := 10) K hl dX0_fill_191 rfl lc_1 rfl rfl (fun ls hl => ?_)
            refine g_goto (tgt := 68) K dX0_fill_194 (by decide) ?_
            exact hk68 _ _ _ _ _ _ _ _ _ _ _ ls hF ha (lq_sub hl rfl)
          · refine g_iconst K dX0_fill_184 lc_1 ?_
            refine g_goto (tgt := 189) K dX0_fill_185 (by decide) ?_
            refine g_istore (i := 9) K hl dX0_fill_189 rfl rfl (fun ls hl => ?_)
            refine g_iinc (i := 10) K hl dX0_fill_191 rfl lc_1 rfl rfl (fun ls hl => ?_)
            refine g_goto (tgt := 68) K dX0_fill_194 (by decide) ?_
            exact hk68 _ _ _ _ _ _ _ _ _ _ _ ls hF ha (lq_sub hl rfl)
      · refine g_goto (tgt := 191) K dX0_fill_93 (by decide) ?_
        refine g_iinc (i := 10) K hl dX0_fill_191 rfl lc_1 rfl rfl (fun ls hl => ?_)
        refine g_goto (tgt := 68) K dX0_fill_194 (by decide) ?_
        exact hk68 _ _ _ _ _ _ _ _ _ _ _ ls hF ha (lq_sub hl rfl)
  have L68 : ∀ (k39 : XS → Int32 → Int32 → Int32 → Int32 → Int32 → Int32 → Option (Int32 × XS)) (hk39 : (∀ (σ : XS) (x1 : Int32) (x2 : Int32) (x3 : Int32) (x4 : Int32) (x5 : Int32) (x6 : Int32) (ls : Array Slot), k39 σ x1 x2 x3 x4 x5 x6 = some r → agW false wx_X0_fill σ0 σ → lq ls 11 [(0, some (.ref th)), (1, some (.int x1)), (2, some (.int x2)), (3, some (.int x3)), (4, some (.int x4)), (5, some (.int x5)), (6, some (.int x6))] → ZX p l e 195 TL SL s m args below meth c D cx ro A false wx_X0_fill σ0 (some (.int r.1)) r.2 σ (F0 m 39 ls []))) (n : Nat) (σ : XS) (x1 : Int32) (x2 : Int32) (x3 : Int32) (x4 : Int32) (x5 : Int32) (x6 : Int32) (x7 : Int32) (x8 : Int32) (x9 : Int32) (x10 : Int32) (ls : Array Slot), X_X0_fill_L68 G th k39 n σ x1 x2 x3 x4 x5 x6 x7 x8 x9 x10 = some r → agW false wx_X0_fill σ0 σ → lq ls 11 [(0, some (.ref th)), (1, some (.int x1)), (2, some (.int x2)), (3, some (.int x3)), (4, some (.int x4)), (5, some (.int x5)), (6, some (.int x6)), (7, some (.int x7)), (8, some (.int x8)), (9, some (.int x9)), (10, some (.int x10))] → ZX p l e 195 TL SL s m args below meth c D cx ro A false wx_X0_fill σ0 (some (.int r.1)) r.2 σ (F0 m 68 ls []) := by
    intro k39 hk39 n
    induction n with
    | zero => intro σ x1 x2 x3 x4 x5 x6 x7 x8 x9 x10 ls hF; exact absurd hF (fun h => by cases h)
    | succ n ih => intro σ x1 x2 x3 x4 x5 x6 x7 x8 x9 x10 ls hF ha hl; exact B68 k39 hk39 _ ih _ _ _ _ _ _ _ _ _ _ _ ls hF ha hl
  have B39 : ∀ (k39 : XS → Int32 → Int32 → Int32 → Int32 → Int32 → Int32 → Option (Int32 × XS)) (hk39 : (∀ (σ : XS) (x1 : Int32) (x2 : Int32) (x3 : Int32) (x4 : Int32) (x5 : Int32) (x6 : Int32) (ls : Array Slot), k39 σ x1 x2 x3 x4 x5 x6 = some r → agW false wx_X0_fill σ0 σ → lq ls 11 [(0, some (.ref th)), (1, some (.int x1)), (2, some (.int x2)), (3, some (.int x3)), (4, some (.int x4)), (5, some (.int x5)), (6, some (.int x6))] → ZX p l e 195 TL SL s m args below meth c D cx ro A false wx_X0_fill σ0 (some (.int r.1)) r.2 σ (F0 m 39 ls []))) (σ : XS) (x1 : Int32) (x2 : Int32) (x3 : Int32) (x4 : Int32) (x5 : Int32) (x6 : Int32) (ls : Array Slot), X_X0_fill_B39 G th k39 σ x1 x2 x3 x4 x5 x6 = some r → agW false wx_X0_fill σ0 σ → lq ls 11 [(0, some (.ref th)), (1, some (.int x1)), (2, some (.int x2)), (3, some (.int x3)), (4, some (.int x4)), (5, some (.int x5)), (6, some (.int x6))] → ZX p l e 195 TL SL s m args below meth c D cx ro A false wx_X0_fill σ0 (some (.int r.1)) r.2 σ (F0 m 39 ls []) := by
    intro k39 hk39 σ x1 x2 x3 x4 x5 x6 ls hF ha hl
    unfold X_X0_fill_B39 at hF
    refine g_iload (i := 6) K hl dX0_fill_39 rfl ?_
    refine g_iconst K dX0_fill_41 lc_1 ?_
    refine g_aload_n (i := 0) K hl dX0_fill_42 rfl rfl ?_
    refine xg_X0_12 X hF dX0_fill_43 (fun t1 hF => ?_)
    refine xg_X0_87 X hF dX0_fill_46 (fun t2 hF => ?_)
    have hlZ := hl
    obtain ⟨q3, hq9, ht_q3, hZ⟩ := nnX_i hF
    cases hq9
    have hF := hZ
    clear hZ
    have hl := hlZ
    clear hlZ
    refine x_callP (V := Value.int) hF (fun t h => x_rV X hl (w_J2_size _ _  t h) ht_q3 rfl rfl cpx_J2_size q994 rfl rfl rfl rfl (cat_room rfl) dX0_fill_49) (fun t4 hF => ?_)
    refine g_ishl K dX0_fill_52 ?_
    refine g_icmp_ge (tgt := 232) K hF dX0_fill_53 (by decide) (fun hF => ?_) (fun hF => ?_)
    · refine g_iload_n (i := 3) K hl dX0_fill_232 rfl rfl ?_
      refine g_if_ne (tgt := 241) K hF dX0_fill_233 (by decide) (fun hF => ?_) (fun hF => ?_)
      · refine g_iload (i := 5) K hl dX0_fill_241 rfl ?_
        exact x_iretW X hF ha dX0_fill_243
      · refine g_iload (i := 4) K hl dX0_fill_236 rfl ?_
        refine g_goto (tgt := 243) K dX0_fill_238 (by decide) ?_
        exact x_iretW X hF ha dX0_fill_243
    · refine g_iconst K dX0_fill_56 lc_0 ?_
      refine g_istore (i := 7) K hl dX0_fill_57 rfl rfl (fun ls hl => ?_)
      refine g_iconst K dX0_fill_59 lc_0 ?_
      refine g_istore (i := 8) K hl dX0_fill_60 rfl rfl (fun ls hl => ?_)
      refine g_iconst K dX0_fill_62 lc_1 ?_
      refine g_istore (i := 9) K hl dX0_fill_63 rfl rfl (fun ls hl => ?_)
      refine g_iconst K dX0_fill_65 lc_0 ?_
      refine g_istore (i := 10) K hl dX0_fill_66 rfl rfl (fun ls hl => ?_)
      exact L68 k39 hk39 G _ _ _ _ _ _ _ _ _ _ _ ls hF ha (lq_sub hl rfl)
  have L39 : ∀ (n : Nat) (σ : XS) (x1 : Int32) (x2 : Int32) (x3 : Int32) (x4 : Int32) (x5 : Int32) (x6 : Int32) (ls : Array Slot), X_X0_fill_L39 G th  n σ x1 x2 x3 x4 x5 x6 = some r → agW false wx_X0_fill σ0 σ → lq ls 11 [(0, some (.ref th)), (1, some (.int x1)), (2, some (.int x2)), (3, some (.int x3)), (4, some (.int x4)), (5, some (.int x5)), (6, some (.int x6))] → ZX p l e 195 TL SL s m args below meth c D cx ro A false wx_X0_fill σ0 (some (.int r.1)) r.2 σ (F0 m 39 ls []) := by
    intro  n
    induction n with
    | zero => intro σ x1 x2 x3 x4 x5 x6 ls hF; exact absurd hF (fun h => by cases h)
    | succ n ih => intro σ x1 x2 x3 x4 x5 x6 ls hF ha hl; exact B39  _ ih _ _ _ _ _ _ _ ls hF ha hl
  have ha : agW false wx_X0_fill σ0 σ0 := agW.rf
  unfold X_X0_fill at hF
  refine g_aload_n (i := 0) K hl dX0_fill_0 rfl rfl ?_
  refine g_iload_n (i := 1) K hl dX0_fill_1 rfl rfl ?_
  have hlZ := hl
  obtain ⟨q1, hq9, ht_q1, hZ⟩ := nnX_i hF
  cases hq9
  have hF := hZ
  clear hZ
  have hl := hlZ
  clear hlZ
  refine x_callP (V := Value.int) hF (fun t h => x_rV X hl (w_X0_isBobber _ _ _ t h) ht_q1 rfl rfl cpx_X0_isBobber q1016 rfl rfl rfl rfl (cat_room rfl) dX0_fill_2) (fun t2 hF => ?_)
  refine g_if_eq (tgt := 28) K hF dX0_fill_5 (by decide) (fun hF => ?_) (fun hF => ?_)
  · refine g_iconst K dX0_fill_28 lc_m1 ?_
    exact x_iretW X hF ha dX0_fill_29
  · refine g_iload_n (i := 2) K hl dX0_fill_8 rfl rfl ?_
    refine g_iconst K dX0_fill_9 lc_0 ?_
    refine g_sipush K dX0_fill_10 ls_999 ?_
    refine x_callP (V := Value.int) hF (fun t h => x_rS X hl (w_X0_isIn _ _ _ _ t h) cpx_X0_isIn q1007 rfl rfl rfl rfl (cat_room rfl) dX0_fill_13) (fun t3 hF => ?_)
    refine g_if_eq (tgt := 28) K hF dX0_fill_16 (by decide) (fun hF => ?_) (fun hF => ?_)
    · refine g_iconst K dX0_fill_28 lc_m1 ?_
      exact x_iretW X hF ha dX0_fill_29
    · refine g_iload_n (i := 3) K hl dX0_fill_19 rfl rfl ?_
      refine g_iconst K dX0_fill_20 lc_0 ?_
      refine g_iconst K dX0_fill_21 lc_1 ?_
      refine x_callP (V := Value.int) hF (fun t h => x_rS X hl (w_X0_isIn _ _ _ _ t h) cpx_X0_isIn q1007 rfl rfl rfl rfl (cat_room rfl) dX0_fill_22) (fun t4 hF => ?_)
      refine g_if_ne (tgt := 30) K hF dX0_fill_25 (by decide) (fun hF => ?_) (fun hF => ?_)
      · refine g_iconst K dX0_fill_30 lc_0 ?_
        refine g_istore (i := 4) K hl dX0_fill_31 rfl rfl (fun ls hl => ?_)
        refine g_iconst K dX0_fill_33 lc_0 ?_
        refine g_istore (i := 5) K hl dX0_fill_34 rfl rfl (fun ls hl => ?_)
        refine g_iconst K dX0_fill_36 lc_1 ?_
        refine g_istore (i := 6) K hl dX0_fill_37 rfl rfl (fun ls hl => ?_)
        exact L39  G _ _ _ _ _ _ _ ls hF ha (lq_sub hl rfl)
      · refine g_iconst K dX0_fill_28 lc_m1 ?_
        exact x_iretW X hF ha dX0_fill_29

theorem cpx_X0_common : cpS yX0_common cX0_common 2 (some .int) 2 := ⟨q1420, q145, q1421, by decide +kernel⟩
set_option maxHeartbeats 4000000 in
set_option maxRecDepth 100000 in
theorem w_X0_common_F {l : Launch} {D : va_G} {cx ro : Nat → Nat} {A : Nat → Prop} {TL SL : Nat} (R_X0_common : XS → Int32 → Int32 → Option Int32) (dR : Nat) (hR_X0_common : ∀ (σ : XS) (a0 : Int32) (a1 : Int32) (r : Int32), R_X0_common σ a0 a1 = some r → xMet l D cx ro A TL SL yX0_common cX0_common 2 (some .int) (1 + dR - 1) false wx_X0_common [.int a0, .int a1] σ (some (.int r)) σ) (σ0 : XS) (a0 : Int32) (a1 : Int32) (r : Int32) (hF : X_X0_common_F R_X0_common σ0 a0 a1 = some r) : xMet l D cx ro A TL SL yX0_common cX0_common 2 (some .int) (1 + dR) false wx_X0_common [.int a0, .int a1] σ0 (some (.int r)) σ0 := by
  refine x_of (l9 := [(0, some (.int a0)), (1, some (.int a1))]) (by decide) (by exact Nat.le_of_ble_eq_true rfl) (by rfl) ?_
  intro p e s m args below meth c ls X K hnm hl hlm
  unfold X_X0_common_F at hF
  refine g_iload_n (i := 1) K hl dX0_common_0 rfl rfl ?_
  refine g_if_ne (tgt := 8) K hF dX0_common_1 (by decide) (fun hF => ?_) (fun hF => ?_)
  · refine g_iload_n (i := 1) K hl dX0_common_8 rfl rfl ?_
    refine g_iload_n (i := 0) K hl dX0_common_9 rfl rfl ?_
    refine g_iload_n (i := 1) K hl dX0_common_10 rfl rfl ?_
    refine g_iremT K hF dX0_common_11 (fun t1 hF => ?_)
    refine x_callP (V := Value.int) hF (fun t h => x_rS X hl (hR_X0_common _ _ _ t h) cpx_X0_common q1419 rfl (ble_of (by omega)) rfl rfl (cat_room rfl) dX0_common_12) (fun t2 hF => ?_)
    exact x_iretP X hF agW.rf dX0_common_15
  · refine g_iload_n (i := 0) K hl dX0_common_4 rfl rfl ?_
    refine g_goto (tgt := 15) K dX0_common_5 (by decide) ?_
    exact x_iretP X hF agW.rf dX0_common_15
theorem w_X0_common {l : Launch} {D : va_G} {cx ro : Nat → Nat} {A : Nat → Prop} {TL SL : Nat} (D9 : Nat) : ∀ (σ : XS) (a0 : Int32) (a1 : Int32) (r : Int32), X_X0_common  D9 σ a0 a1 = some r → xMet l D cx ro A TL SL yX0_common cX0_common 2 (some .int) (1 + D9 - 1) false wx_X0_common [.int a0, .int a1] σ (some (.int r)) σ := by
  induction D9 with
  | zero => intro σ a0 a1 r hF; exact absurd hF (fun h => by cases h)
  | succ D9 ih =>
    intro σ a0 a1 r hF
    exact w_X0_common_F (X_X0_common  D9) D9 ih σ a0 a1 r hF

theorem cpx_X0_coin : cpV yX0_coin cX0_coin 5 (some .int) 2 := ⟨q1416, q1417, q145, q1418, by decide +kernel⟩
set_option maxHeartbeats 4000000 in
set_option maxRecDepth 100000 in
theorem w_X0_coin {l : Launch} {D : va_G} {cx ro : Nat → Nat} {A : Nat → Prop} {TL SL : Nat} (G : Nat) (σ0 : XS) (th : Nat) (a0 : Int32) (a1 : Int32) (r : Int32) (hF : X_X0_coin G σ0 th a0 a1 = some r) : xMet l D cx ro A TL SL yX0_coin cX0_coin 5 (some .int) 42 false wx_X0_coin [.ref th, .int a0, .int a1] σ0 (some (.int r)) σ0 := by
  refine x_of (l9 := [(0, some (.ref th)), (1, some (.int a0)), (2, some (.int a1))]) (by decide) (by exact Nat.le_of_ble_eq_true rfl) (by rfl) ?_
  intro p e s m args below meth c ls X K hnm hl hlm
  have L153 : ∀ (x3 : Int32) (x4 : Int32) (s0 : Int32) (ls : Array Slot), X_X0_coin_L153 G σ0 th  x3 x4 s0 = some r → lq ls 5 [(0, some (.ref th)), (3, some (.int x3)), (4, some (.int x4))] → ZX p l e 42 TL SL s m args below meth c D cx ro A false wx_X0_coin σ0 (some (.int r)) σ0 σ0 (F0 m 153 ls [.int s0]) := by
    intro  x3 x4 s0 ls hF hl
    unfold X_X0_coin_L153 at hF
    refine g_iload_n (i := 3) K hl dX0_coin_153 rfl rfl ?_
    refine g_iload (i := 4) K hl dX0_coin_154 rfl ?_
    refine x_callP (V := Value.int) hF (fun t h => x_rS X hl (w_X0_common 40 _ _ _ t h) cpx_X0_common q1419 rfl rfl rfl rfl (cat_room rfl) dX0_coin_156) (fun t1 hF => ?_)
    refine g_idivT K hF dX0_coin_159 (fun t2 hF => ?_)
    exact x_iretP X hF agW.rf dX0_coin_160
  have L134 : ∀ (x2 : Int32) (x3 : Int32) (s0 : Int32) (ls : Array Slot), X_X0_coin_L134 G σ0 th  x2 x3 s0 = some r → lq ls 5 [(0, some (.ref th)), (2, some (.int x2)), (3, some (.int x3))] → ZX p l e 42 TL SL s m args below meth c D cx ro A false wx_X0_coin σ0 (some (.int r)) σ0 σ0 (F0 m 134 ls [.int s0]) := by
    intro  x2 x3 s0 ls hF hl
    unfold X_X0_coin_L134 at hF
    refine g_istore (i := 4) K hl dX0_coin_134 rfl rfl (fun ls hl => ?_)
    refine g_iload (i := 4) K hl dX0_coin_136 rfl ?_
    refine g_if_ne (tgt := 143) K hF dX0_coin_138 (by decide) (fun hF => ?_) (fun hF => ?_)
    · refine g_iload_n (i := 2) K hl dX0_coin_143 rfl rfl ?_
      refine g_if_ne (tgt := 152) K hF dX0_coin_144 (by decide) (fun hF => ?_) (fun hF => ?_)
      · refine g_iload_n (i := 3) K hl dX0_coin_152 rfl rfl ?_
        exact L153  _ _ _ ls hF (lq_sub hl rfl)
      · refine g_iload (i := 4) K hl dX0_coin_147 rfl ?_
        refine g_goto (tgt := 153) K dX0_coin_149 (by decide) ?_
        exact L153  _ _ _ ls hF (lq_sub hl rfl)
    · refine g_iload_n (i := 2) K hl dX0_coin_141 rfl rfl ?_
      exact x_iretP X hF agW.rf dX0_coin_142
  have B24 : ∀ (k24 : Int32 → Int32 → Int32 → Int32 → Option Int32) (hk24 : (∀ (x1 : Int32) (x2 : Int32) (x3 : Int32) (x4 : Int32) (ls : Array Slot), k24 x1 x2 x3 x4 = some r → lq ls 5 [(0, some (.ref th)), (1, some (.int x1)), (2, some (.int x2)), (3, some (.int x3)), (4, some (.int x4))] → ZX p l e 42 TL SL s m args below meth c D cx ro A false wx_X0_coin σ0 (some (.int r)) σ0 σ0 (F0 m 24 ls []))) (x1 : Int32) (x2 : Int32) (x3 : Int32) (x4 : Int32) (ls : Array Slot), X_X0_coin_B24 G σ0 th k24 x1 x2 x3 x4 = some r → lq ls 5 [(0, some (.ref th)), (1, some (.int x1)), (2, some (.int x2)), (3, some (.int x3)), (4, some (.int x4))] → ZX p l e 42 TL SL s m args below meth c D cx ro A false wx_X0_coin σ0 (some (.int r)) σ0 σ0 (F0 m 24 ls []) := by
    intro k24 hk24 x1 x2 x3 x4 ls hF hl
    unfold X_X0_coin_B24 at hF
    refine g_iload (i := 4) K hl dX0_coin_24 rfl ?_
    refine g_aload_n (i := 0) K hl dX0_coin_26 rfl rfl ?_
    refine xg_X0_12 X hF dX0_coin_27 (fun t1 hF => ?_)
    refine xg_X0_87 X hF dX0_coin_30 (fun t2 hF => ?_)
    have hlZ := hl
    obtain ⟨q3, hq9, ht_q3, hZ⟩ := nnX_i hF
    cases hq9
    have hF := hZ
    clear hZ
    have hl := hlZ
    clear hlZ
    refine x_callP (V := Value.int) hF (fun t h => x_rV X hl (w_J2_size _ _  t h) ht_q3 rfl rfl cpx_J2_size q994 rfl rfl rfl rfl (cat_room rfl) dX0_coin_33) (fun t4 hF => ?_)
    refine g_icmp_ge (tgt := 92) K hF dX0_coin_36 (by decide) (fun hF => ?_) (fun hF => ?_)
    · refine g_aload_n (i := 0) K hl dX0_coin_92 rfl rfl ?_
      refine xg_X0_12 X hF dX0_coin_93 (fun t5 hF => ?_)
      refine xg_X0_87 X hF dX0_coin_96 (fun t6 hF => ?_)
      refine g_iload_n (i := 1) K hl dX0_coin_99 rfl rfl ?_
      have hlZ := hl
      obtain ⟨q7, hq9, ht_q7, hZ⟩ := nnX_i hF
      cases hq9
      have hF := hZ
      clear hZ
      have hl := hlZ
      clear hlZ
      refine x_callP (V := va_rf) hF (fun t h => x_rV X hl (w_J2_get _ _ _ t h) ht_q7 rfl rfl cpx_J2_get q1010 rfl rfl rfl rfl (cat_room rfl) dX0_coin_100) (fun t8 hF => ?_)
      refine x_cast X hF rfl q1011 dX0_coin_103 (fun hF => ?_)
      refine xg_X0_153 X hF dX0_coin_106 (fun t9 hF => ?_)
      refine g_iconst K dX0_coin_109 lc_m1 ?_
      refine g_icmp_ne (tgt := 133) K hF dX0_coin_110 (by decide) (fun hF => ?_) (fun hF => ?_)
      · refine g_iconst K dX0_coin_133 lc_0 ?_
        exact L134  _ _ _ ls hF (lq_sub hl rfl)
      · refine g_aload_n (i := 0) K hl dX0_coin_113 rfl rfl ?_
        refine xg_X0_12 X hF dX0_coin_114 (fun t10 hF => ?_)
        refine xg_X0_87 X hF dX0_coin_117 (fun t11 hF => ?_)
        refine g_iload_n (i := 1) K hl dX0_coin_120 rfl rfl ?_
        have hlZ := hl
        obtain ⟨q12, hq9, ht_q12, hZ⟩ := nnX_i hF
        cases hq9
        have hF := hZ
        clear hZ
        have hl := hlZ
        clear hlZ
        refine x_callP (V := va_rf) hF (fun t h => x_rV X hl (w_J2_get _ _ _ t h) ht_q12 rfl rfl cpx_J2_get q1010 rfl rfl rfl rfl (cat_room rfl) dX0_coin_121) (fun t13 hF => ?_)
        refine x_cast X hF rfl q1011 dX0_coin_124 (fun hF => ?_)
        refine xg_X0_327 X hF dX0_coin_127 (fun t14 hF => ?_)
        refine g_goto (tgt := 134) K dX0_coin_130 (by decide) ?_
        exact L134  _ _ _ ls hF (lq_sub hl rfl)
    · refine g_iload_n (i := 3) K hl dX0_coin_39 rfl rfl ?_
      refine g_aload_n (i := 0) K hl dX0_coin_40 rfl rfl ?_
      refine xg_X0_12 X hF dX0_coin_41 (fun t15 hF => ?_)
      refine xg_X0_87 X hF dX0_coin_44 (fun t16 hF => ?_)
      refine g_iload (i := 4) K hl dX0_coin_47 rfl ?_
      have hlZ := hl
      obtain ⟨q17, hq9, ht_q17, hZ⟩ := nnX_i hF
      cases hq9
      have hF := hZ
      clear hZ
      have hl := hlZ
      clear hlZ
      refine x_callP (V := va_rf) hF (fun t h => x_rV X hl (w_J2_get _ _ _ t h) ht_q17 rfl rfl cpx_J2_get q1010 rfl rfl rfl rfl (cat_room rfl) dX0_coin_49) (fun t18 hF => ?_)
      refine x_cast X hF rfl q1011 dX0_coin_52 (fun hF => ?_)
      refine xg_X0_153 X hF dX0_coin_55 (fun t19 hF => ?_)
      refine g_iconst K dX0_coin_58 lc_m1 ?_
      refine g_icmp_ne (tgt := 83) K hF dX0_coin_59 (by decide) (fun hF => ?_) (fun hF => ?_)
      · refine g_iconst K dX0_coin_83 lc_0 ?_
        refine g_iadd K dX0_coin_84 ?_
        refine g_istore_n (i := 3) K hl dX0_coin_85 rfl rfl rfl (fun ls hl => ?_)
        refine g_iinc (i := 4) K hl dX0_coin_86 rfl lc_1 rfl rfl (fun ls hl => ?_)
        refine g_goto (tgt := 24) K dX0_coin_89 (by decide) ?_
        exact hk24 _ _ _ _ ls hF (lq_sub hl rfl)
      · refine g_aload_n (i := 0) K hl dX0_coin_62 rfl rfl ?_
        refine xg_X0_12 X hF dX0_coin_63 (fun t20 hF => ?_)
        refine xg_X0_87 X hF dX0_coin_66 (fun t21 hF => ?_)
        refine g_iload (i := 4) K hl dX0_coin_69 rfl ?_
        have hlZ := hl
        obtain ⟨q22, hq9, ht_q22, hZ⟩ := nnX_i hF
        cases hq9
        have hF := hZ
        clear hZ
        have hl := hlZ
        clear hlZ
        refine x_callP (V := va_rf) hF (fun t h => x_rV X hl (w_J2_get _ _ _ t h) ht_q22 rfl rfl cpx_J2_get q1010 rfl rfl rfl rfl (cat_room rfl) dX0_coin_71) (fun t23 hF => ?_)
        refine x_cast X hF rfl q1011 dX0_coin_74 (fun hF => ?_)
        refine xg_X0_327 X hF dX0_coin_77 (fun t24 hF => ?_)
        refine g_goto (tgt := 84) K dX0_coin_80 (by decide) ?_
        refine g_iadd K dX0_coin_84 ?_
        refine g_istore_n (i := 3) K hl dX0_coin_85 rfl rfl rfl (fun ls hl => ?_)
        refine g_iinc (i := 4) K hl dX0_coin_86 rfl lc_1 rfl rfl (fun ls hl => ?_)
        refine g_goto (tgt := 24) K dX0_coin_89 (by decide) ?_
        exact hk24 _ _ _ _ ls hF (lq_sub hl rfl)
  have L24 : ∀ (n : Nat) (x1 : Int32) (x2 : Int32) (x3 : Int32) (x4 : Int32) (ls : Array Slot), X_X0_coin_L24 G σ0 th  n x1 x2 x3 x4 = some r → lq ls 5 [(0, some (.ref th)), (1, some (.int x1)), (2, some (.int x2)), (3, some (.int x3)), (4, some (.int x4))] → ZX p l e 42 TL SL s m args below meth c D cx ro A false wx_X0_coin σ0 (some (.int r)) σ0 σ0 (F0 m 24 ls []) := by
    intro  n
    induction n with
    | zero => intro x1 x2 x3 x4 ls hF; exact absurd hF (fun h => by cases h)
    | succ n ih => intro x1 x2 x3 x4 ls hF hl; exact B24  _ ih _ _ _ _ ls hF hl
  unfold X_X0_coin at hF
  refine g_aload_n (i := 0) K hl dX0_coin_0 rfl rfl ?_
  refine g_iload_n (i := 1) K hl dX0_coin_1 rfl rfl ?_
  have hlZ := hl
  obtain ⟨q1, hq9, ht_q1, hZ⟩ := nnX_i hF
  cases hq9
  have hF := hZ
  clear hZ
  have hl := hlZ
  clear hlZ
  refine x_callP (V := Value.int) hF (fun t h => x_rV X hl (w_X0_isApple _ _ _ t h) ht_q1 rfl rfl cpx_X0_isApple q1003 rfl rfl rfl rfl (cat_room rfl) dX0_coin_2) (fun t2 hF => ?_)
  refine g_if_eq (tgt := 17) K hF dX0_coin_5 (by decide) (fun hF => ?_) (fun hF => ?_)
  · refine g_iconst K dX0_coin_17 lc_m1 ?_
    exact x_iretP X hF agW.rf dX0_coin_18
  · refine g_iload_n (i := 2) K hl dX0_coin_8 rfl rfl ?_
    refine g_iconst K dX0_coin_9 lc_0 ?_
    refine g_iconst K dX0_coin_10 lc_1 ?_
    refine x_callP (V := Value.int) hF (fun t h => x_rS X hl (w_X0_isIn _ _ _ _ t h) cpx_X0_isIn q1007 rfl rfl rfl rfl (cat_room rfl) dX0_coin_11) (fun t3 hF => ?_)
    refine g_if_ne (tgt := 19) K hF dX0_coin_14 (by decide) (fun hF => ?_) (fun hF => ?_)
    · refine g_iconst K dX0_coin_19 lc_0 ?_
      refine g_istore_n (i := 3) K hl dX0_coin_20 rfl rfl rfl (fun ls hl => ?_)
      refine g_iconst K dX0_coin_21 lc_0 ?_
      refine g_istore (i := 4) K hl dX0_coin_22 rfl rfl (fun ls hl => ?_)
      exact L24  G _ _ _ _ ls hF (lq_sub hl rfl)
    · refine g_iconst K dX0_coin_17 lc_m1 ?_
      exact x_iretP X hF agW.rf dX0_coin_18

theorem cpx_X15_init : cpI yX15_init cX15_init 5 4 := ⟨rfl, q1429, q175, q1430, by decide +kernel⟩
set_option maxHeartbeats 4000000 in
set_option maxRecDepth 100000 in
theorem w_X15_init {l : Launch} {D : va_G} {cx ro : Nat → Nat} {A : Nat → Prop} {TL SL : Nat}  (σ0 : XS) (th : Nat) (a0 : Int32) (a1 : Int32) (a2 : Int32) (a3 : Int32) (r : XS) (hF : X_X15_init σ0 th a0 a1 a2 a3 = some r) : xMet l D cx ro A TL SL yX15_init cX15_init 5 none 1 false wx_X15_init [.ref th, .int a0, .int a1, .int a2, .int a3] σ0 none r := by
  refine x_of (l9 := [(0, some (.ref th)), (1, some (.int a0)), (2, some (.int a1)), (3, some (.int a2)), (4, some (.int a3))]) (by decide) (by exact Nat.le_of_ble_eq_true rfl) (by rfl) ?_
  intro p e s m args below meth c ls X K hnm hl hlm
  have ha : agW false wx_X15_init σ0 σ0 := agW.rf
  unfold X_X15_init at hF
  refine g_aload_n (i := 0) K hl dX15_init_0 rfl rfl ?_
  refine x_objI X hl q1431 rfl dX15_init_1 ?_
  refine g_aload_n (i := 0) K hl dX15_init_4 rfl rfl ?_
  refine g_iconst K dX15_init_5 lc_m1 ?_
  refine xp_X15_9 X hF ha rfl dX15_init_6 (fun σ1 hF ha => ?_)
  refine g_aload_n (i := 0) K hl dX15_init_9 rfl rfl ?_
  refine g_iload_n (i := 1) K hl dX15_init_10 rfl rfl ?_
  refine xp_X15_15 X hF hnm ha rfl dX15_init_11 (fun σ2 hF ha => ?_)
  refine g_aload_n (i := 0) K hl dX15_init_14 rfl rfl ?_
  refine g_iload_n (i := 2) K hl dX15_init_15 rfl rfl ?_
  refine xp_X15_18 X hF hnm ha rfl dX15_init_16 (fun σ3 hF ha => ?_)
  refine g_aload_n (i := 0) K hl dX15_init_19 rfl rfl ?_
  refine g_iload_n (i := 3) K hl dX15_init_20 rfl rfl ?_
  refine xp_X15_21 X hF hnm ha rfl dX15_init_21 (fun σ4 hF ha => ?_)
  refine g_aload_n (i := 0) K hl dX15_init_24 rfl rfl ?_
  refine g_iload (i := 4) K hl dX15_init_25 rfl ?_
  refine xp_X15_24 X hF hnm ha rfl dX15_init_27 (fun σ5 hF ha => ?_)
  exact x_vretV X hF ha dX15_init_30

theorem cpx_X0_pick : cpV yX0_pick cX0_pick 4 (some .int) 3 := ⟨q1423, q1424, q145, q1425, by decide +kernel⟩
set_option maxHeartbeats 4000000 in
set_option maxRecDepth 100000 in
theorem w_X0_pick {l : Launch} {D : va_G} {cx ro : Nat → Nat} {A : Nat → Prop} {TL SL : Nat}  (σ0 : XS) (th : Nat) (a0 : Int32) (a1 : Int32) (a2 : Int32) (r : (Int32 × XS)) (hF : X_X0_pick TL SL ro σ0 th a0 a1 a2 = some r) : xMet l D cx ro A TL SL yX0_pick cX0_pick 4 (some .int) 10 true wx_X0_pick [.ref th, .int a0, .int a1, .int a2] σ0 (some (.int r.1)) r.2 := by
  refine x_of (l9 := [(0, some (.ref th)), (1, some (.int a0)), (2, some (.int a1)), (3, some (.int a2))]) (by decide) (by exact Nat.le_of_ble_eq_true rfl) (by rfl) ?_
  intro p e s m args below meth c ls X K hnm hl hlm
  have ha : agW true wx_X0_pick σ0 σ0 := agW.rf
  unfold X_X0_pick at hF
  refine g_aload_n (i := 0) K hl dX0_pick_0 rfl rfl ?_
  refine g_iload_n (i := 1) K hl dX0_pick_1 rfl rfl ?_
  have hlZ := hl
  obtain ⟨q1, hq9, ht_q1, hZ⟩ := nnX_i hF
  cases hq9
  have hF := hZ
  clear hZ
  have hl := hlZ
  clear hlZ
  refine x_callP (V := Value.int) hF (fun t h => x_rV X hl (w_X0_isBobber _ _ _ t h) ht_q1 rfl rfl cpx_X0_isBobber q1016 rfl rfl rfl rfl (cat_room rfl) dX0_pick_2) (fun t2 hF => ?_)
  refine g_if_eq (tgt := 56) K hF dX0_pick_5 (by decide) (fun hF => ?_) (fun hF => ?_)
  · refine g_iconst K dX0_pick_56 lc_m1 ?_
    exact x_iretW X hF ha dX0_pick_57
  · refine g_aload_n (i := 0) K hl dX0_pick_8 rfl rfl ?_
    refine g_iload_n (i := 3) K hl dX0_pick_9 rfl rfl ?_
    have hlZ := hl
    obtain ⟨q3, hq9, ht_q3, hZ⟩ := nnX_i hF
    cases hq9
    have hF := hZ
    clear hZ
    have hl := hlZ
    clear hlZ
    refine x_callP (V := Value.int) hF (fun t h => x_rV X hl (w_X0_isApple _ _ _ t h) ht_q3 rfl rfl cpx_X0_isApple q1003 rfl rfl rfl rfl (cat_room rfl) dX0_pick_10) (fun t4 hF => ?_)
    refine g_if_eq (tgt := 56) K hF dX0_pick_13 (by decide) (fun hF => ?_) (fun hF => ?_)
    · refine g_iconst K dX0_pick_56 lc_m1 ?_
      exact x_iretW X hF ha dX0_pick_57
    · refine g_iload_n (i := 2) K hl dX0_pick_16 rfl rfl ?_
      refine g_if_lt (tgt := 56) K hF dX0_pick_17 (by decide) (fun hF => ?_) (fun hF => ?_)
      · refine g_iconst K dX0_pick_56 lc_m1 ?_
        exact x_iretW X hF ha dX0_pick_57
      · refine g_iload_n (i := 2) K hl dX0_pick_20 rfl rfl ?_
        refine g_iconst K dX0_pick_21 lc_1 ?_
        refine g_aload_n (i := 0) K hl dX0_pick_22 rfl rfl ?_
        refine xg_X0_12 X hF dX0_pick_23 (fun t5 hF => ?_)
        refine xg_X0_87 X hF dX0_pick_26 (fun t6 hF => ?_)
        have hlZ := hl
        obtain ⟨q7, hq9, ht_q7, hZ⟩ := nnX_i hF
        cases hq9
        have hF := hZ
        clear hZ
        have hl := hlZ
        clear hlZ
        refine x_callP (V := Value.int) hF (fun t h => x_rV X hl (w_J2_size _ _  t h) ht_q7 rfl rfl cpx_J2_size q994 rfl rfl rfl rfl (cat_room rfl) dX0_pick_29) (fun t8 hF => ?_)
        refine g_ishl K dX0_pick_32 ?_
        refine g_icmp_ge (tgt := 56) K hF dX0_pick_33 (by decide) (fun hF => ?_) (fun hF => ?_)
        · refine g_iconst K dX0_pick_56 lc_m1 ?_
          exact x_iretW X hF ha dX0_pick_57
        · refine g_iload_n (i := 2) K hl dX0_pick_36 rfl rfl ?_
          refine g_iload_n (i := 3) K hl dX0_pick_37 rfl rfl ?_
          refine g_ishr K dX0_pick_38 ?_
          refine g_iconst K dX0_pick_39 lc_1 ?_
          refine g_iand K dX0_pick_40 ?_
          refine g_if_eq (tgt := 56) K hF dX0_pick_41 (by decide) (fun hF => ?_) (fun hF => ?_)
          · refine g_iconst K dX0_pick_56 lc_m1 ?_
            exact x_iretW X hF ha dX0_pick_57
          · refine g_aload_n (i := 0) K hl dX0_pick_44 rfl rfl ?_
            refine xg_X0_44 X hF dX0_pick_45 (fun t9 hF => ?_)
            have hlZ := hl
            obtain ⟨q10, hq9, ht_q10, hZ⟩ := nnX_i hF
            cases hq9
            have hF := hZ
            clear hZ
            have hl := hlZ
            clear hlZ
            refine x_callP (V := Value.int) hF (fun t h => x_rV X hl (w_J2_size _ _  t h) ht_q10 rfl rfl cpx_J2_size q994 rfl rfl rfl rfl (cat_room rfl) dX0_pick_48) (fun t11 hF => ?_)
            refine g_bipush K dX0_pick_51 lb_30 ?_
            refine g_icmp_ne (tgt := 58) K hF dX0_pick_53 (by decide) (fun hF => ?_) (fun hF => ?_)
            · refine g_aload_n (i := 0) K hl dX0_pick_58 rfl rfl ?_
              refine xg_X0_44 X hF dX0_pick_59 (fun t12 hF => ?_)
              refine x_newO X ⟨rfl, rfl⟩ hF ⟨_, rfl⟩ q1426 q1427 q175 ha dX0_pick_62 (fun q13 σ14 hF ha => ?_)
              refine g_dup K dX0_pick_65 rfl ?_
              refine g_iload_n (i := 1) K hl dX0_pick_66 rfl rfl ?_
              refine g_iload_n (i := 2) K hl dX0_pick_67 rfl rfl ?_
              refine g_iload_n (i := 3) K hl dX0_pick_68 rfl rfl ?_
              refine g_aload_n (i := 0) K hl dX0_pick_69 rfl rfl ?_
              refine xg_X0_332 X hF dX0_pick_70 (fun t15 hF => ?_)
              have hlZ := hl
              obtain ⟨q16, hq9, hZ⟩ := nnO_i hF
              cases hq9
              have hF := hZ
              clear hZ
              have hl := hlZ
              clear hlZ
              refine x_callV hF ha rfl (fun t h => x_rI X hl (w_X15_init _ _ _ _ _ _ t h) cpx_X15_init q1428 rfl rfl rfl rfl (cat_room rfl) dX0_pick_73) (fun σ17 hF ha => ?_)
              have hlZ := hl
              obtain ⟨q18, hq9, ht_q18, hZ⟩ := nnX_i hF
              cases hq9
              have hF := hZ
              clear hZ
              have hl := hlZ
              clear hlZ
              refine x_callW (V := Value.int) hF ha rfl (fun t h => x_rV X hl (w_J2_add _ _ _ t h) ht_q18 rfl rfl cpx_J2_add q1179 rfl rfl rfl rfl (cat_room rfl) dX0_pick_76) (fun t19 σ20 hF ha => ?_)
              refine g_pop K dX0_pick_79 rfl ?_
              refine g_aload_n (i := 0) K hl dX0_pick_80 rfl rfl ?_
              refine xg_X0_44 X hF dX0_pick_81 (fun t21 hF => ?_)
              have hlZ := hl
              obtain ⟨q22, hq9, ht_q22, hZ⟩ := nnX_i hF
              cases hq9
              have hF := hZ
              clear hZ
              have hl := hlZ
              clear hlZ
              refine x_callP (V := Value.int) hF (fun t h => x_rV X hl (w_J2_size _ _  t h) ht_q22 rfl rfl cpx_J2_size q994 rfl rfl rfl rfl (cat_room rfl) dX0_pick_84) (fun t23 hF => ?_)
              refine g_iconst K dX0_pick_87 lc_1 ?_
              refine g_isub K dX0_pick_88 ?_
              exact x_iretW X hF ha dX0_pick_89
            · refine g_iconst K dX0_pick_56 lc_m1 ?_
              exact x_iretW X hF ha dX0_pick_57

theorem cpx_X0_untell : cpV yX0_untell cX0_untell 2 (some .boolean) 1 := ⟨q1453, q1454, q145, q1455, by decide +kernel⟩
set_option maxHeartbeats 4000000 in
set_option maxRecDepth 100000 in
theorem w_X0_untell {l : Launch} {D : va_G} {cx ro : Nat → Nat} {A : Nat → Prop} {TL SL : Nat}  (σ0 : XS) (th : Nat) (a0 : Int32) (r : (Int32 × XS)) (hF : X_X0_untell σ0 th a0 = some r) : xMet l D cx ro A TL SL yX0_untell cX0_untell 2 (some .boolean) 3 false wx_X0_untell [.ref th, .int a0] σ0 (some (.int r.1)) r.2 := by
  refine x_of (l9 := [(0, some (.ref th)), (1, some (.int a0))]) (by decide) (by exact Nat.le_of_ble_eq_true rfl) (by rfl) ?_
  intro p e s m args below meth c ls X K hnm hl hlm
  have ha : agW false wx_X0_untell σ0 σ0 := agW.rf
  unfold X_X0_untell at hF
  refine g_iload_n (i := 1) K hl dX0_untell_0 rfl rfl ?_
  refine g_iconst K dX0_untell_1 lc_0 ?_
  refine g_aload_n (i := 0) K hl dX0_untell_2 rfl rfl ?_
  refine xg_X0_44 X hF dX0_untell_3 (fun t1 hF => ?_)
  have hlZ := hl
  obtain ⟨q2, hq9, ht_q2, hZ⟩ := nnX_i hF
  cases hq9
  have hF := hZ
  clear hZ
  have hl := hlZ
  clear hlZ
  refine x_callP (V := Value.int) hF (fun t h => x_rV X hl (w_J2_size _ _  t h) ht_q2 rfl rfl cpx_J2_size q994 rfl rfl rfl rfl (cat_room rfl) dX0_untell_6) (fun t3 hF => ?_)
  refine g_iconst K dX0_untell_9 lc_1 ?_
  refine g_isub K dX0_untell_10 ?_
  refine x_callP (V := Value.int) hF (fun t h => x_rS X hl (w_X0_isIn _ _ _ _ t h) cpx_X0_isIn q1007 rfl rfl rfl rfl (cat_room rfl) dX0_untell_11) (fun t4 hF => ?_)
  refine g_if_eq (tgt := 34) K hF dX0_untell_14 (by decide) (fun hF => ?_) (fun hF => ?_)
  · refine g_iconst K dX0_untell_34 lc_0 ?_
    exact x_zretW X hF (Or.inl rfl) ha dX0_untell_35
  · refine g_aload_n (i := 0) K hl dX0_untell_17 rfl rfl ?_
    refine xg_X0_44 X hF dX0_untell_18 (fun t5 hF => ?_)
    refine g_iload_n (i := 1) K hl dX0_untell_21 rfl rfl ?_
    have hlZ := hl
    obtain ⟨q6, hq9, ht_q6, hZ⟩ := nnX_i hF
    cases hq9
    have hF := hZ
    clear hZ
    have hl := hlZ
    clear hlZ
    refine x_callP (V := va_rf) hF (fun t h => x_rV X hl (w_J2_get _ _ _ t h) ht_q6 rfl rfl cpx_J2_get q1010 rfl rfl rfl rfl (cat_room rfl) dX0_untell_22) (fun t7 hF => ?_)
    refine x_cast X hF rfl q1426 dX0_untell_25 (fun hF => ?_)
    refine xg_X0_338 X hF dX0_untell_28 (fun t8 hF => ?_)
    refine g_if_lt (tgt := 36) K hF dX0_untell_31 (by decide) (fun hF => ?_) (fun hF => ?_)
    · refine g_aload_n (i := 0) K hl dX0_untell_36 rfl rfl ?_
      refine xg_X0_44 X hF dX0_untell_37 (fun t9 hF => ?_)
      refine g_iload_n (i := 1) K hl dX0_untell_40 rfl rfl ?_
      have hlZ := hl
      obtain ⟨q10, hq9, ht_q10, hZ⟩ := nnX_i hF
      cases hq9
      have hF := hZ
      clear hZ
      have hl := hlZ
      clear hlZ
      refine x_callP (V := va_rf) hF (fun t h => x_rV X hl (w_J2_get _ _ _ t h) ht_q10 rfl rfl cpx_J2_get q1010 rfl rfl rfl rfl (cat_room rfl) dX0_untell_41) (fun t11 hF => ?_)
      refine x_cast X hF rfl q1426 dX0_untell_44 (fun hF => ?_)
      refine g_aload_n (i := 0) K hl dX0_untell_47 rfl rfl ?_
      refine xg_X0_332 X hF dX0_untell_48 (fun t12 hF => ?_)
      refine xp_X0_338 X hF ha rfl dX0_untell_51 (fun σ13 hF ha => ?_)
      refine g_iconst K dX0_untell_54 lc_1 ?_
      exact x_zretW X hF (Or.inr rfl) ha dX0_untell_55
    · refine g_iconst K dX0_untell_34 lc_0 ?_
      exact x_zretW X hF (Or.inl rfl) ha dX0_untell_35

theorem cpx_X0_later : cpV yX0_later cX0_later 2 (some .int) 1 := ⟨q1457, q1458, q145, q1459, by decide +kernel⟩
set_option maxHeartbeats 4000000 in
set_option maxRecDepth 100000 in
theorem w_X0_later {l : Launch} {D : va_G} {cx ro : Nat → Nat} {A : Nat → Prop} {TL SL : Nat}  (σ0 : XS) (th : Nat) (a0 : Int32) (r : (Int32 × XS)) (hF : X_X0_later σ0 th a0 = some r) : xMet l D cx ro A TL SL yX0_later cX0_later 2 (some .int) 0 false wx_X0_later [.ref th, .int a0] σ0 (some (.int r.1)) r.2 := by
  refine x_of (l9 := [(0, some (.ref th)), (1, some (.int a0))]) (by decide) (by exact Nat.le_of_ble_eq_true rfl) (by rfl) ?_
  intro p e s m args below meth c ls X K hnm hl hlm
  have ha : agW false wx_X0_later σ0 σ0 := agW.rf
  unfold X_X0_later at hF
  refine g_iload_n (i := 1) K hl dX0_later_0 rfl rfl ?_
  refine g_if_lt (tgt := 23) K hF dX0_later_1 (by decide) (fun hF => ?_) (fun hF => ?_)
  · refine g_iconst K dX0_later_23 lc_m1 ?_
    exact x_iretW X hF ha dX0_later_24
  · refine g_iload_n (i := 1) K hl dX0_later_4 rfl rfl ?_
    refine g_sipush K dX0_later_5 ls_1000 ?_
    refine g_icmp_gt (tgt := 23) K hF dX0_later_8 (by decide) (fun hF => ?_) (fun hF => ?_)
    · refine g_iconst K dX0_later_23 lc_m1 ?_
      exact x_iretW X hF ha dX0_later_24
    · refine g_aload_n (i := 0) K hl dX0_later_11 rfl rfl ?_
      refine xg_X0_332 X hF dX0_later_12 (fun t1 hF => ?_)
      refine g_iload_n (i := 1) K hl dX0_later_15 rfl rfl ?_
      refine g_iadd K dX0_later_16 ?_
      refine g_ldcw K dX0_later_17 q1460 ?_
      refine g_icmp_le (tgt := 25) K hF dX0_later_20 (by decide) (fun hF => ?_) (fun hF => ?_)
      · refine g_aload_n (i := 0) K hl dX0_later_25 rfl rfl ?_
        refine g_dup K dX0_later_26 rfl ?_
        refine xg_X0_332 X hF dX0_later_27 (fun t2 hF => ?_)
        refine g_iload_n (i := 1) K hl dX0_later_30 rfl rfl ?_
        refine g_iadd K dX0_later_31 ?_
        refine xp_X0_332 X hF ha rfl dX0_later_32 (fun σ3 hF ha => ?_)
        refine g_aload_n (i := 0) K hl dX0_later_35 rfl rfl ?_
        refine xg_X0_332 X hF dX0_later_36 (fun t4 hF => ?_)
        exact x_iretW X hF ha dX0_later_39
      · refine g_iconst K dX0_later_23 lc_m1 ?_
        exact x_iretW X hF ha dX0_later_24

theorem cpx_X0_doesTake : cpV yX0_doesTake cX0_doesTake 8 (some .boolean) 2 := ⟨q1476, qs59, q145, q1477, by decide +kernel⟩
set_option maxHeartbeats 4000000 in
set_option maxRecDepth 100000 in
theorem w_X0_doesTake {l : Launch} {D : va_G} {cx ro : Nat → Nat} {A : Nat → Prop} {TL SL : Nat} (G : Nat) (σ0 : XS) (th : Nat) (a0 : Option Nat) (a1 : Option Nat) (r : (Int32 × XS)) (hF : X_X0_doesTake G σ0 th a0 a1 = some r) : xMet l D cx ro A TL SL yX0_doesTake cX0_doesTake 8 (some .boolean) 195 false wx_X0_doesTake [.ref th, va_rf a0, va_rf a1] σ0 (some (.int r.1)) r.2 := by
  refine x_of (l9 := [(0, some (.ref th)), (1, some (va_rf a0)), (2, some (va_rf a1))]) (by decide) (by cases a0 <;> cases a1 <;> exact Nat.le_of_ble_eq_true rfl) (by cases a0 <;> cases a1 <;> rfl) ?_
  intro p e s m args below meth c ls X K hnm hl hlm
  have B27 : ∀ (k27 : XS → Option Nat → Option Nat → Option Nat → Int32 → Int32 → Int32 → Option (Int32 × XS)) (hk27 : (∀ (σ : XS) (x1 : Option Nat) (x2 : Option Nat) (x3 : Option Nat) (x4 : Int32) (x5 : Int32) (x6 : Int32) (ls : Array Slot), k27 σ x1 x2 x3 x4 x5 x6 = some r → agW false wx_X0_doesTake σ0 σ → lq ls 8 [(0, some (.ref th)), (1, some (va_rf x1)), (2, some (va_rf x2)), (3, some (va_rf x3)), (4, some (.int x4)), (5, some (.int x5)), (6, some (.int x6))] → ZX p l e 195 TL SL s m args below meth c D cx ro A false wx_X0_doesTake σ0 (some (.int r.1)) r.2 σ (F0 m 27 ls []))) (σ : XS) (x1 : Option Nat) (x2 : Option Nat) (x3 : Option Nat) (x4 : Int32) (x5 : Int32) (x6 : Int32) (ls : Array Slot), X_X0_doesTake_B27 G th k27 σ x1 x2 x3 x4 x5 x6 = some r → agW false wx_X0_doesTake σ0 σ → lq ls 8 [(0, some (.ref th)), (1, some (va_rf x1)), (2, some (va_rf x2)), (3, some (va_rf x3)), (4, some (.int x4)), (5, some (.int x5)), (6, some (.int x6))] → ZX p l e 195 TL SL s m args below meth c D cx ro A false wx_X0_doesTake σ0 (some (.int r.1)) r.2 σ (F0 m 27 ls []) := by
    intro k27 hk27 σ x1 x2 x3 x4 x5 x6 ls hF ha hl
    unfold X_X0_doesTake_B27 at hF
    refine g_iload (i := 6) K hl dX0_doesTake_27 rfl ?_
    refine g_aload_n (i := 0) K hl dX0_doesTake_29 rfl rfl ?_
    refine xg_X0_12 X hF dX0_doesTake_30 (fun t1 hF => ?_)
    refine xg_X0_87 X hF dX0_doesTake_33 (fun t2 hF => ?_)
    have hlZ := hl
    obtain ⟨q3, hq9, ht_q3, hZ⟩ := nnX_i hF
    cases hq9
    have hF := hZ
    clear hZ
    have hl := hlZ
    clear hlZ
    refine x_callP (V := Value.int) hF (fun t h => x_rV X hl (w_J2_size _ _  t h) ht_q3 rfl rfl cpx_J2_size q994 rfl rfl rfl rfl (cat_room rfl) dX0_doesTake_36) (fun t4 hF => ?_)
    refine g_icmp_ge (tgt := 113) K hF dX0_doesTake_39 (by decide) (fun hF => ?_) (fun hF => ?_)
    · refine g_iload (i := 4) K hl dX0_doesTake_113 rfl ?_
      refine g_aloadR_n (i := 2) K hl dX0_doesTake_115 rfl rfl ?_
      refine xg_X0_352 X hF dX0_doesTake_116 (fun t5 hF => ?_)
      refine g_icmp_ne (tgt := 126) K hF dX0_doesTake_119 (by decide) (fun hF => ?_) (fun hF => ?_)
      · refine g_iconst K dX0_doesTake_126 lc_0 ?_
        exact x_zretW X hF (Or.inl rfl) ha dX0_doesTake_127
      · refine g_iconst K dX0_doesTake_122 lc_1 ?_
        refine g_goto (tgt := 127) K dX0_doesTake_123 (by decide) ?_
        exact x_zretW X hF (Or.inr rfl) ha dX0_doesTake_127
    · refine g_aloadR_n (i := 2) K hl dX0_doesTake_42 rfl rfl ?_
      refine xg_X0_345 X hF dX0_doesTake_43 (fun t6 hF => ?_)
      refine g_iload (i := 6) K hl dX0_doesTake_46 rfl ?_
      refine g_ishr K dX0_doesTake_48 ?_
      refine g_iconst K dX0_doesTake_49 lc_1 ?_
      refine g_iand K dX0_doesTake_50 ?_
      refine g_if_ne (tgt := 57) K hF dX0_doesTake_51 (by decide) (fun hF => ?_) (fun hF => ?_)
      · refine g_aload_n (i := 0) K hl dX0_doesTake_57 rfl rfl ?_
        refine xg_X0_12 X hF dX0_doesTake_58 (fun t7 hF => ?_)
        refine g_aloadR_n (i := 1) K hl dX0_doesTake_61 rfl rfl ?_
        refine g_aloadR_n (i := 3) K hl dX0_doesTake_62 rfl rfl ?_
        refine g_aload_n (i := 0) K hl dX0_doesTake_63 rfl rfl ?_
        refine xg_X0_12 X hF dX0_doesTake_64 (fun t8 hF => ?_)
        refine xg_X0_87 X hF dX0_doesTake_67 (fun t9 hF => ?_)
        refine g_iload (i := 6) K hl dX0_doesTake_70 rfl ?_
        have hlZ := hl
        obtain ⟨q10, hq9, ht_q10, hZ⟩ := nnX_i hF
        cases hq9
        have hF := hZ
        clear hZ
        have hl := hlZ
        clear hlZ
        refine x_callP (V := va_rf) hF (fun t h => x_rV X hl (w_J2_get _ _ _ t h) ht_q10 rfl rfl cpx_J2_get q1010 rfl rfl rfl rfl (cat_room rfl) dX0_doesTake_72) (fun t11 hF => ?_)
        refine x_cast X hF rfl q1011 dX0_doesTake_75 (fun hF => ?_)
        refine g_iconst K dX0_doesTake_78 lc_0 ?_
        have hlZ := hl
        obtain ⟨q12, hq9, ht_q12, hZ⟩ := nnX_i hF
        cases hq9
        have hF := hZ
        clear hZ
        have hl := hlZ
        clear hlZ
        refine x_callW (V := Value.int) hF ha rfl (fun t h => x_rV X hl (w_X1_value _ _ _ _ _ _ t h) ht_q12 rfl rfl cpx_X1_value q1478 rfl rfl rfl rfl (cat_room rfl) dX0_doesTake_79) (fun t13 σ14 hF ha => ?_)
        refine g_istore (i := 7) K hl dX0_doesTake_82 rfl rfl (fun ls hl => ?_)
        refine g_iload (i := 4) K hl dX0_doesTake_84 rfl ?_
        refine g_if_lt (tgt := 99) K hF dX0_doesTake_86 (by decide) (fun hF => ?_) (fun hF => ?_)
        · refine g_iload (i := 6) K hl dX0_doesTake_99 rfl ?_
          refine g_istore (i := 4) K hl dX0_doesTake_101 rfl (lkn_rf rfl) (fun ls hl => ?_)
          refine g_iload (i := 7) K hl dX0_doesTake_103 rfl ?_
          refine g_istore (i := 5) K hl dX0_doesTake_105 rfl rfl (fun ls hl => ?_)
          refine g_iinc (i := 6) K hl dX0_doesTake_107 rfl lc_1 rfl rfl (fun ls hl => ?_)
          refine g_goto (tgt := 27) K dX0_doesTake_110 (by decide) ?_
          exact hk27 _ _ _ _ _ _ _ ls hF ha (lq_sub hl rfl)
        · refine g_iload (i := 7) K hl dX0_doesTake_89 rfl ?_
          refine g_iload (i := 5) K hl dX0_doesTake_91 rfl ?_
          refine g_icmp_gt (tgt := 99) K hF dX0_doesTake_93 (by decide) (fun hF => ?_) (fun hF => ?_)
          · refine g_iload (i := 6) K hl dX0_doesTake_99 rfl ?_
            refine g_istore (i := 4) K hl dX0_doesTake_101 rfl (lkn_rf rfl) (fun ls hl => ?_)
            refine g_iload (i := 7) K hl dX0_doesTake_103 rfl ?_
            refine g_istore (i := 5) K hl dX0_doesTake_105 rfl rfl (fun ls hl => ?_)
            refine g_iinc (i := 6) K hl dX0_doesTake_107 rfl lc_1 rfl rfl (fun ls hl => ?_)
            refine g_goto (tgt := 27) K dX0_doesTake_110 (by decide) ?_
            exact hk27 _ _ _ _ _ _ _ ls hF ha (lq_sub hl rfl)
          · refine g_goto (tgt := 107) K dX0_doesTake_96 (by decide) ?_
            refine g_iinc (i := 6) K hl dX0_doesTake_107 rfl lc_1 rfl rfl (fun ls hl => ?_)
            refine g_goto (tgt := 27) K dX0_doesTake_110 (by decide) ?_
            exact hk27 _ _ _ _ _ _ _ ls hF ha (lq_sub hl rfl)
      · refine g_goto (tgt := 107) K dX0_doesTake_54 (by decide) ?_
        refine g_iinc (i := 6) K hl dX0_doesTake_107 rfl lc_1 rfl rfl (fun ls hl => ?_)
        refine g_goto (tgt := 27) K dX0_doesTake_110 (by decide) ?_
        exact hk27 _ _ _ _ _ _ _ ls hF ha (lq_sub hl rfl)
  have L27 : ∀ (n : Nat) (σ : XS) (x1 : Option Nat) (x2 : Option Nat) (x3 : Option Nat) (x4 : Int32) (x5 : Int32) (x6 : Int32) (ls : Array Slot), X_X0_doesTake_L27 G th  n σ x1 x2 x3 x4 x5 x6 = some r → agW false wx_X0_doesTake σ0 σ → lq ls 8 [(0, some (.ref th)), (1, some (va_rf x1)), (2, some (va_rf x2)), (3, some (va_rf x3)), (4, some (.int x4)), (5, some (.int x5)), (6, some (.int x6))] → ZX p l e 195 TL SL s m args below meth c D cx ro A false wx_X0_doesTake σ0 (some (.int r.1)) r.2 σ (F0 m 27 ls []) := by
    intro  n
    induction n with
    | zero => intro σ x1 x2 x3 x4 x5 x6 ls hF; exact absurd hF (fun h => by cases h)
    | succ n ih => intro σ x1 x2 x3 x4 x5 x6 ls hF ha hl; exact B27  _ ih _ _ _ _ _ _ _ ls hF ha hl
  have ha : agW false wx_X0_doesTake σ0 σ0 := agW.rf
  unfold X_X0_doesTake at hF
  refine g_aload_n (i := 0) K hl dX0_doesTake_0 rfl rfl ?_
  refine xg_X0_12 X hF dX0_doesTake_1 (fun t1 hF => ?_)
  refine xg_X0_94 X hF dX0_doesTake_4 (fun t2 hF => ?_)
  refine g_aloadR_n (i := 2) K hl dX0_doesTake_7 rfl rfl ?_
  refine xg_X0_342 X hF dX0_doesTake_8 (fun t3 hF => ?_)
  have hlZ := hl
  obtain ⟨q4, hq9, ht_q4, hZ⟩ := nnX_i hF
  cases hq9
  have hF := hZ
  clear hZ
  have hl := hlZ
  clear hlZ
  refine x_callP (V := va_rf) hF (fun t h => x_rV X hl (w_J2_get _ _ _ t h) ht_q4 rfl rfl cpx_J2_get q1010 rfl rfl rfl rfl (cat_room rfl) dX0_doesTake_11) (fun t5 hF => ?_)
  refine x_cast X hF rfl q1020 dX0_doesTake_14 (fun hF => ?_)
  refine g_astoreR_n (i := 3) K hl dX0_doesTake_17 rfl rfl (lkn_rf rfl) (fun ls hl => ?_)
  refine g_iconst K dX0_doesTake_18 lc_m1 ?_
  refine g_istore (i := 4) K hl dX0_doesTake_19 rfl (lkn_rf rfl) (fun ls hl => ?_)
  refine g_iconst K dX0_doesTake_21 lc_0 ?_
  refine g_istore (i := 5) K hl dX0_doesTake_22 rfl rfl (fun ls hl => ?_)
  refine g_iconst K dX0_doesTake_24 lc_0 ?_
  refine g_istore (i := 6) K hl dX0_doesTake_25 rfl rfl (fun ls hl => ?_)
  exact L27  G _ _ _ _ _ _ _ ls hF ha (lq_sub hl rfl)

theorem cpx_X15_counts : cpV yX15_counts cX15_counts 2 (some .boolean) 1 := ⟨q1471, q1472, q175, q1473, by decide +kernel⟩
set_option maxHeartbeats 4000000 in
set_option maxRecDepth 100000 in
theorem w_X15_counts {l : Launch} {D : va_G} {cx ro : Nat → Nat} {A : Nat → Prop} {TL SL : Nat}  (σ0 : XS) (th : Nat) (a0 : Int32) (r : Int32) (hF : X_X15_counts σ0 th a0 = some r) : xMet l D cx ro A TL SL yX15_counts cX15_counts 2 (some .boolean) 0 false wx_X15_counts [.ref th, .int a0] σ0 (some (.int r)) σ0 := by
  refine x_of (l9 := [(0, some (.ref th)), (1, some (.int a0))]) (by decide) (by exact Nat.le_of_ble_eq_true rfl) (by rfl) ?_
  intro p e s m args below meth c ls X K hnm hl hlm
  unfold X_X15_counts at hF
  refine g_aload_n (i := 0) K hl dX15_counts_0 rfl rfl ?_
  refine xg_X15_24 X hF dX15_counts_1 (fun t1 hF => ?_)
  refine g_iload_n (i := 1) K hl dX15_counts_4 rfl rfl ?_
  refine g_icmp_gt (tgt := 27) K hF dX15_counts_5 (by decide) (fun hF => ?_) (fun hF => ?_)
  · refine g_iconst K dX15_counts_27 lc_0 ?_
    exact x_zretP X hF (Or.inl rfl) agW.rf dX15_counts_28
  · refine g_aload_n (i := 0) K hl dX15_counts_8 rfl rfl ?_
    refine xg_X15_9 X hF dX15_counts_9 (fun t2 hF => ?_)
    refine g_if_lt (tgt := 23) K hF dX15_counts_12 (by decide) (fun hF => ?_) (fun hF => ?_)
    · refine g_iconst K dX15_counts_23 lc_1 ?_
      refine g_goto (tgt := 28) K dX15_counts_24 (by decide) ?_
      exact x_zretP X hF (Or.inr rfl) agW.rf dX15_counts_28
    · refine g_aload_n (i := 0) K hl dX15_counts_15 rfl rfl ?_
      refine xg_X15_9 X hF dX15_counts_16 (fun t3 hF => ?_)
      refine g_iload_n (i := 1) K hl dX15_counts_19 rfl rfl ?_
      refine g_icmp_le (tgt := 27) K hF dX15_counts_20 (by decide) (fun hF => ?_) (fun hF => ?_)
      · refine g_iconst K dX15_counts_27 lc_0 ?_
        exact x_zretP X hF (Or.inl rfl) agW.rf dX15_counts_28
      · refine g_iconst K dX15_counts_23 lc_1 ?_
        refine g_goto (tgt := 28) K dX15_counts_24 (by decide) ?_
        exact x_zretP X hF (Or.inr rfl) agW.rf dX15_counts_28

theorem cpx_X0_wrongBy : cpV yX0_wrongBy cX0_wrongBy 5 (some .int) 2 := ⟨q1468, qs58, q145, q1469, by decide +kernel⟩
set_option maxHeartbeats 4000000 in
set_option maxRecDepth 100000 in
theorem w_X0_wrongBy {l : Launch} {D : va_G} {cx ro : Nat → Nat} {A : Nat → Prop} {TL SL : Nat} (G : Nat) (σ0 : XS) (th : Nat) (a0 : Option Nat) (a1 : Int32) (r : (Int32 × XS)) (hF : X_X0_wrongBy G σ0 th a0 a1 = some r) : xMet l D cx ro A TL SL yX0_wrongBy cX0_wrongBy 5 (some .int) 196 false wx_X0_wrongBy [.ref th, va_rf a0, .int a1] σ0 (some (.int r.1)) r.2 := by
  refine x_of (l9 := [(0, some (.ref th)), (1, some (va_rf a0)), (2, some (.int a1))]) (by decide) (by cases a0 <;> exact Nat.le_of_ble_eq_true rfl) (by cases a0 <;> rfl) ?_
  intro p e s m args below meth c ls X K hnm hl hlm
  have B5 : ∀ (k5 : XS → Option Nat → Int32 → Int32 → Int32 → Option (Int32 × XS)) (hk5 : (∀ (σ : XS) (x1 : Option Nat) (x2 : Int32) (x3 : Int32) (x4 : Int32) (ls : Array Slot), k5 σ x1 x2 x3 x4 = some r → agW false wx_X0_wrongBy σ0 σ → lq ls 5 [(0, some (.ref th)), (1, some (va_rf x1)), (2, some (.int x2)), (3, some (.int x3)), (4, some (.int x4))] → ZX p l e 196 TL SL s m args below meth c D cx ro A false wx_X0_wrongBy σ0 (some (.int r.1)) r.2 σ (F0 m 5 ls []))) (σ : XS) (x1 : Option Nat) (x2 : Int32) (x3 : Int32) (x4 : Int32) (ls : Array Slot), X_X0_wrongBy_B5 G th k5 σ x1 x2 x3 x4 = some r → agW false wx_X0_wrongBy σ0 σ → lq ls 5 [(0, some (.ref th)), (1, some (va_rf x1)), (2, some (.int x2)), (3, some (.int x3)), (4, some (.int x4))] → ZX p l e 196 TL SL s m args below meth c D cx ro A false wx_X0_wrongBy σ0 (some (.int r.1)) r.2 σ (F0 m 5 ls []) := by
    intro k5 hk5 σ x1 x2 x3 x4 ls hF ha hl
    unfold X_X0_wrongBy_B5 at hF
    refine g_iload (i := 4) K hl dX0_wrongBy_5 rfl ?_
    refine g_aload_n (i := 0) K hl dX0_wrongBy_7 rfl rfl ?_
    refine xg_X0_44 X hF dX0_wrongBy_8 (fun t1 hF => ?_)
    have hlZ := hl
    obtain ⟨q2, hq9, ht_q2, hZ⟩ := nnX_i hF
    cases hq9
    have hF := hZ
    clear hZ
    have hl := hlZ
    clear hlZ
    refine x_callP (V := Value.int) hF (fun t h => x_rV X hl (w_J2_size _ _  t h) ht_q2 rfl rfl cpx_J2_size q994 rfl rfl rfl rfl (cat_room rfl) dX0_wrongBy_11) (fun t3 hF => ?_)
    refine g_icmp_ge (tgt := 65) K hF dX0_wrongBy_14 (by decide) (fun hF => ?_) (fun hF => ?_)
    · refine g_iload_n (i := 3) K hl dX0_wrongBy_65 rfl rfl ?_
      exact x_iretW X hF ha dX0_wrongBy_66
    · refine g_aload_n (i := 0) K hl dX0_wrongBy_17 rfl rfl ?_
      refine xg_X0_44 X hF dX0_wrongBy_18 (fun t4 hF => ?_)
      refine g_iload (i := 4) K hl dX0_wrongBy_21 rfl ?_
      have hlZ := hl
      obtain ⟨q5, hq9, ht_q5, hZ⟩ := nnX_i hF
      cases hq9
      have hF := hZ
      clear hZ
      have hl := hlZ
      clear hlZ
      refine x_callP (V := va_rf) hF (fun t h => x_rV X hl (w_J2_get _ _ _ t h) ht_q5 rfl rfl cpx_J2_get q1010 rfl rfl rfl rfl (cat_room rfl) dX0_wrongBy_23) (fun t6 hF => ?_)
      refine x_cast X hF rfl q1426 dX0_wrongBy_26 (fun hF => ?_)
      refine g_iload_n (i := 2) K hl dX0_wrongBy_29 rfl rfl ?_
      have hlZ := hl
      obtain ⟨q7, hq9, ht_q7, hZ⟩ := nnX_i hF
      cases hq9
      have hF := hZ
      clear hZ
      have hl := hlZ
      clear hlZ
      refine x_callP (V := Value.int) hF (fun t h => x_rV X hl (w_X15_counts _ _ _ t h) ht_q7 rfl rfl cpx_X15_counts q1470 rfl rfl rfl rfl (cat_room rfl) dX0_wrongBy_30) (fun t8 hF => ?_)
      refine g_if_eq (tgt := 59) K hF dX0_wrongBy_33 (by decide) (fun hF => ?_) (fun hF => ?_)
      · refine g_iinc (i := 4) K hl dX0_wrongBy_59 rfl lc_1 rfl rfl (fun ls hl => ?_)
        refine g_goto (tgt := 5) K dX0_wrongBy_62 (by decide) ?_
        exact hk5 _ _ _ _ _ ls hF ha (lq_sub hl rfl)
      · refine g_aload_n (i := 0) K hl dX0_wrongBy_36 rfl rfl ?_
        refine g_aloadR_n (i := 1) K hl dX0_wrongBy_37 rfl rfl ?_
        refine g_aload_n (i := 0) K hl dX0_wrongBy_38 rfl rfl ?_
        refine xg_X0_44 X hF dX0_wrongBy_39 (fun t9 hF => ?_)
        refine g_iload (i := 4) K hl dX0_wrongBy_42 rfl ?_
        have hlZ := hl
        obtain ⟨q10, hq9, ht_q10, hZ⟩ := nnX_i hF
        cases hq9
        have hF := hZ
        clear hZ
        have hl := hlZ
        clear hlZ
        refine x_callP (V := va_rf) hF (fun t h => x_rV X hl (w_J2_get _ _ _ t h) ht_q10 rfl rfl cpx_J2_get q1010 rfl rfl rfl rfl (cat_room rfl) dX0_wrongBy_44) (fun t11 hF => ?_)
        refine x_cast X hF rfl q1426 dX0_wrongBy_47 (fun hF => ?_)
        have hlZ := hl
        obtain ⟨q12, hq9, ht_q12, hZ⟩ := nnX_i hF
        cases hq9
        have hF := hZ
        clear hZ
        have hl := hlZ
        clear hlZ
        refine x_callW (V := Value.int) hF ha rfl (fun t h => x_rV X hl (w_X0_doesTake G _ _ _ _ t h) ht_q12 rfl rfl cpx_X0_doesTake q1474 rfl rfl rfl rfl (cat_room rfl) dX0_wrongBy_50) (fun t13 σ14 hF ha => ?_)
        refine g_if_ne (tgt := 59) K hF dX0_wrongBy_53 (by decide) (fun hF => ?_) (fun hF => ?_)
        · refine g_iinc (i := 4) K hl dX0_wrongBy_59 rfl lc_1 rfl rfl (fun ls hl => ?_)
          refine g_goto (tgt := 5) K dX0_wrongBy_62 (by decide) ?_
          exact hk5 _ _ _ _ _ ls hF ha (lq_sub hl rfl)
        · refine g_iinc (i := 3) K hl dX0_wrongBy_56 rfl lc_1 rfl rfl (fun ls hl => ?_)
          refine g_iinc (i := 4) K hl dX0_wrongBy_59 rfl lc_1 rfl rfl (fun ls hl => ?_)
          refine g_goto (tgt := 5) K dX0_wrongBy_62 (by decide) ?_
          exact hk5 _ _ _ _ _ ls hF ha (lq_sub hl rfl)
  have L5 : ∀ (n : Nat) (σ : XS) (x1 : Option Nat) (x2 : Int32) (x3 : Int32) (x4 : Int32) (ls : Array Slot), X_X0_wrongBy_L5 G th  n σ x1 x2 x3 x4 = some r → agW false wx_X0_wrongBy σ0 σ → lq ls 5 [(0, some (.ref th)), (1, some (va_rf x1)), (2, some (.int x2)), (3, some (.int x3)), (4, some (.int x4))] → ZX p l e 196 TL SL s m args below meth c D cx ro A false wx_X0_wrongBy σ0 (some (.int r.1)) r.2 σ (F0 m 5 ls []) := by
    intro  n
    induction n with
    | zero => intro σ x1 x2 x3 x4 ls hF; exact absurd hF (fun h => by cases h)
    | succ n ih => intro σ x1 x2 x3 x4 ls hF ha hl; exact B5  _ ih _ _ _ _ _ ls hF ha hl
  have ha : agW false wx_X0_wrongBy σ0 σ0 := agW.rf
  unfold X_X0_wrongBy at hF
  refine g_iconst K dX0_wrongBy_0 lc_0 ?_
  refine g_istore_n (i := 3) K hl dX0_wrongBy_1 rfl rfl rfl (fun ls hl => ?_)
  refine g_iconst K dX0_wrongBy_2 lc_0 ?_
  refine g_istore (i := 4) K hl dX0_wrongBy_3 rfl rfl (fun ls hl => ?_)
  exact L5  G _ _ _ _ _ ls hF ha (lq_sub hl rfl)

theorem cpx_X13_begin : cpV yX13_begin cX13_begin 1 none 0 := ⟨q986, q987, q172, q988, by decide +kernel⟩
set_option maxHeartbeats 4000000 in
set_option maxRecDepth 100000 in
theorem w_X13_begin {l : Launch} {D : va_G} {cx ro : Nat → Nat} {A : Nat → Prop} {TL SL : Nat}  (σ0 : XS) (th : Nat)  (r : XS) (hF : X_X13_begin σ0 th = some r) : xMet l D cx ro A TL SL yX13_begin cX13_begin 1 none 0 false wx_X13_begin [.ref th] σ0 none r := by
  refine x_of (l9 := [(0, some (.ref th))]) (by decide) (by exact Nat.le_of_ble_eq_true rfl) (by rfl) ?_
  intro p e s m args below meth c ls X K hnm hl hlm
  have ha : agW false wx_X13_begin σ0 σ0 := agW.rf
  unfold X_X13_begin at hF
  refine g_aload_n (i := 0) K hl dX13_begin_0 rfl rfl ?_
  refine g_aload_n (i := 0) K hl dX13_begin_1 rfl rfl ?_
  refine xg_X13_22 X hF dX13_begin_2 (fun t1 hF => ?_)
  refine xp_X13_25 X hF ha rfl dX13_begin_5 (fun σ2 hF ha => ?_)
  refine g_aload_n (i := 0) K hl dX13_begin_8 rfl rfl ?_
  refine g_aload_n (i := 0) K hl dX13_begin_9 rfl rfl ?_
  refine xg_X13_28 X hF dX13_begin_10 (fun t3 hF => ?_)
  refine xp_X13_31 X hF ha rfl dX13_begin_13 (fun σ4 hF ha => ?_)
  refine g_aload_n (i := 0) K hl dX13_begin_16 rfl rfl ?_
  refine g_iconst K dX13_begin_17 lc_m1 ?_
  refine xp_X13_15 X hF ha rfl dX13_begin_18 (fun σ5 hF ha => ?_)
  refine g_aload_n (i := 0) K hl dX13_begin_21 rfl rfl ?_
  refine g_iconst K dX13_begin_22 lc_0 ?_
  refine xp_X13_34 X hF ha rfl dX13_begin_23 (fun σ6 hF ha => ?_)
  refine g_aload_n (i := 0) K hl dX13_begin_26 rfl rfl ?_
  refine g_aload_n (i := 0) K hl dX13_begin_27 rfl rfl ?_
  refine xg_X13_37 X hF dX13_begin_28 (fun t7 hF => ?_)
  refine xp_X13_40 X hF ha rfl dX13_begin_31 (fun σ8 hF ha => ?_)
  exact x_vretV X hF ha dX13_begin_34

theorem cpx_X14_begin : cpV yX14_begin cX14_begin 2 none 0 := ⟨q991, q992, q173, q993, by decide +kernel⟩
set_option maxHeartbeats 4000000 in
set_option maxRecDepth 100000 in
theorem w_X14_begin {l : Launch} {D : va_G} {cx ro : Nat → Nat} {A : Nat → Prop} {TL SL : Nat} (G : Nat) (σ0 : XS) (th : Nat)  (r : XS) (hF : X_X14_begin G σ0 th = some r) : xMet l D cx ro A TL SL yX14_begin cX14_begin 2 none 0 false wx_X14_begin [.ref th] σ0 none r := by
  refine x_of (l9 := [(0, some (.ref th))]) (by decide) (by exact Nat.le_of_ble_eq_true rfl) (by rfl) ?_
  intro p e s m args below meth c ls X K hnm hl hlm
  have B20 : ∀ (k20 : XS → Int32 → Option XS) (hk20 : (∀ (σ : XS) (x1 : Int32) (ls : Array Slot), k20 σ x1 = some r → agW false wx_X14_begin σ0 σ → lq ls 2 [(0, some (.ref th)), (1, some (.int x1))] → ZX p l e 0 TL SL s m args below meth c D cx ro A false wx_X14_begin σ0 none r σ (F0 m 20 ls []))) (σ : XS) (x1 : Int32) (ls : Array Slot), X_X14_begin_B20 G th k20 σ x1 = some r → agW false wx_X14_begin σ0 σ → lq ls 2 [(0, some (.ref th)), (1, some (.int x1))] → ZX p l e 0 TL SL s m args below meth c D cx ro A false wx_X14_begin σ0 none r σ (F0 m 20 ls []) := by
    intro k20 hk20 σ x1 ls hF ha hl
    unfold X_X14_begin_B20 at hF
    refine g_iload_n (i := 1) K hl dX14_begin_20 rfl rfl ?_
    refine g_aload_n (i := 0) K hl dX14_begin_21 rfl rfl ?_
    refine xg_X14_9 X hF dX14_begin_22 (fun t1 hF => ?_)
    refine x_alen X hF dX14_begin_25 (fun t2 hF => ?_)
    refine g_icmp_ge (tgt := 42) K hF dX14_begin_26 (by decide) (fun hF => ?_) (fun hF => ?_)
    · exact x_vretV X hF ha dX14_begin_42
    · refine g_aload_n (i := 0) K hl dX14_begin_29 rfl rfl ?_
      refine xg_X14_9 X hF dX14_begin_30 (fun t3 hF => ?_)
      refine g_iload_n (i := 1) K hl dX14_begin_33 rfl rfl ?_
      refine g_iconst K dX14_begin_34 lc_0 ?_
      refine x_iast X hF ha rfl dX14_begin_35 (fun σ4 hF ha => ?_)
      refine g_iinc (i := 1) K hl dX14_begin_36 rfl lc_1 rfl rfl (fun ls hl => ?_)
      refine g_goto (tgt := 20) K dX14_begin_39 (by decide) ?_
      exact hk20 _ _ ls hF ha (lq_sub hl rfl)
  have L20 : ∀ (n : Nat) (σ : XS) (x1 : Int32) (ls : Array Slot), X_X14_begin_L20 G th  n σ x1 = some r → agW false wx_X14_begin σ0 σ → lq ls 2 [(0, some (.ref th)), (1, some (.int x1))] → ZX p l e 0 TL SL s m args below meth c D cx ro A false wx_X14_begin σ0 none r σ (F0 m 20 ls []) := by
    intro  n
    induction n with
    | zero => intro σ x1 ls hF; exact absurd hF (fun h => by cases h)
    | succ n ih => intro σ x1 ls hF ha hl; exact B20  _ ih _ _ ls hF ha hl
  have ha : agW false wx_X14_begin σ0 σ0 := agW.rf
  unfold X_X14_begin at hF
  refine g_aload_n (i := 0) K hl dX14_begin_0 rfl rfl ?_
  refine g_aload_n (i := 0) K hl dX14_begin_1 rfl rfl ?_
  refine xg_X14_19 X hF dX14_begin_2 (fun t1 hF => ?_)
  refine xp_X14_23 X hF ha rfl dX14_begin_5 (fun σ2 hF ha => ?_)
  refine g_aload_n (i := 0) K hl dX14_begin_8 rfl rfl ?_
  refine g_iconst K dX14_begin_9 lc_0 ?_
  refine xp_X14_26 X hF ha rfl dX14_begin_10 (fun σ3 hF ha => ?_)
  refine g_aload_n (i := 0) K hl dX14_begin_13 rfl rfl ?_
  refine g_iconst K dX14_begin_14 lc_0 ?_
  refine xp_X14_29 X hF ha rfl dX14_begin_15 (fun σ4 hF ha => ?_)
  refine g_iconst K dX14_begin_18 lc_0 ?_
  refine g_istore_n (i := 1) K hl dX14_begin_19 rfl rfl rfl (fun ls hl => ?_)
  exact L20  G _ _ ls hF ha (lq_sub hl rfl)

theorem cpx_X1_begin : cpV yX1_begin cX1_begin 2 none 0 := ⟨q979, q980, q146, q981, by decide +kernel⟩
set_option maxHeartbeats 4000000 in
set_option maxRecDepth 100000 in
theorem w_X1_begin {l : Launch} {D : va_G} {cx ro : Nat → Nat} {A : Nat → Prop} {TL SL : Nat} (G : Nat) (σ0 : XS) (th : Nat)  (r : XS) (hF : X_X1_begin G σ0 th = some r) : xMet l D cx ro A TL SL yX1_begin cX1_begin 2 none 3 false wx_X1_begin [.ref th] σ0 none r := by
  refine x_of (l9 := [(0, some (.ref th))]) (by decide) (by exact Nat.le_of_ble_eq_true rfl) (by rfl) ?_
  intro p e s m args below meth c ls X K hnm hl hlm
  have B35 : ∀ (k35 : XS → Int32 → Option XS) (hk35 : (∀ (σ : XS) (x1 : Int32) (ls : Array Slot), k35 σ x1 = some r → agW false wx_X1_begin σ0 σ → lq ls 2 [(0, some (.ref th)), (1, some (.int x1))] → ZX p l e 3 TL SL s m args below meth c D cx ro A false wx_X1_begin σ0 none r σ (F0 m 35 ls []))) (σ : XS) (x1 : Int32) (ls : Array Slot), X_X1_begin_B35 G th k35 σ x1 = some r → agW false wx_X1_begin σ0 σ → lq ls 2 [(0, some (.ref th)), (1, some (.int x1))] → ZX p l e 3 TL SL s m args below meth c D cx ro A false wx_X1_begin σ0 none r σ (F0 m 35 ls []) := by
    intro k35 hk35 σ x1 ls hF ha hl
    unfold X_X1_begin_B35 at hF
    refine g_iload_n (i := 1) K hl dX1_begin_35 rfl rfl ?_
    refine g_aload_n (i := 0) K hl dX1_begin_36 rfl rfl ?_
    refine xg_X1_31 X hF dX1_begin_37 (fun t1 hF => ?_)
    have hlZ := hl
    obtain ⟨q2, hq9, ht_q2, hZ⟩ := nnX_i hF
    cases hq9
    have hF := hZ
    clear hZ
    have hl := hlZ
    clear hlZ
    refine x_callP (V := Value.int) hF (fun t h => x_rV X hl (w_J2_size _ _  t h) ht_q2 rfl rfl cpx_J2_size q982 rfl rfl rfl rfl (cat_room rfl) dX1_begin_40) (fun t3 hF => ?_)
    refine g_icmp_ge (tgt := 66) K hF dX1_begin_43 (by decide) (fun hF => ?_) (fun hF => ?_)
    · refine g_aload_n (i := 0) K hl dX1_begin_66 rfl rfl ?_
      refine g_aload_n (i := 0) K hl dX1_begin_67 rfl rfl ?_
      refine xg_X1_67 X hF dX1_begin_68 (fun t4 hF => ?_)
      refine xp_X1_70 X hF ha rfl dX1_begin_71 (fun σ5 hF ha => ?_)
      exact x_vretV X hF ha dX1_begin_74
    · refine g_aload_n (i := 0) K hl dX1_begin_46 rfl rfl ?_
      refine xg_X1_31 X hF dX1_begin_47 (fun t6 hF => ?_)
      refine g_iload_n (i := 1) K hl dX1_begin_50 rfl rfl ?_
      have hlZ := hl
      obtain ⟨q7, hq9, ht_q7, hZ⟩ := nnX_i hF
      cases hq9
      have hF := hZ
      clear hZ
      have hl := hlZ
      clear hlZ
      refine x_callP (V := va_rf) hF (fun t h => x_rV X hl (w_J2_get _ _ _ t h) ht_q7 rfl rfl cpx_J2_get q983 rfl rfl rfl rfl (cat_room rfl) dX1_begin_51) (fun t8 hF => ?_)
      refine x_cast X hF rfl q989 dX1_begin_54 (fun hF => ?_)
      have hlZ := hl
      obtain ⟨q9, hq9, ht_q9, hZ⟩ := nnX_i hF
      cases hq9
      have hF := hZ
      clear hZ
      have hl := hlZ
      clear hlZ
      refine x_callV hF ha rfl (fun t h => x_rV X hl (w_X14_begin G _ _  t h) ht_q9 rfl rfl cpx_X14_begin q990 rfl rfl rfl rfl (cat_room rfl) dX1_begin_57) (fun σ10 hF ha => ?_)
      refine g_iinc (i := 1) K hl dX1_begin_60 rfl lc_1 rfl rfl (fun ls hl => ?_)
      refine g_goto (tgt := 35) K dX1_begin_63 (by decide) ?_
      exact hk35 _ _ ls hF ha (lq_sub hl rfl)
  have L35 : ∀ (n : Nat) (σ : XS) (x1 : Int32) (ls : Array Slot), X_X1_begin_L35 G th  n σ x1 = some r → agW false wx_X1_begin σ0 σ → lq ls 2 [(0, some (.ref th)), (1, some (.int x1))] → ZX p l e 3 TL SL s m args below meth c D cx ro A false wx_X1_begin σ0 none r σ (F0 m 35 ls []) := by
    intro  n
    induction n with
    | zero => intro σ x1 ls hF; exact absurd hF (fun h => by cases h)
    | succ n ih => intro σ x1 ls hF ha hl; exact B35  _ ih _ _ ls hF ha hl
  have B2 : ∀ (k2 : XS → Int32 → Option XS) (hk2 : (∀ (σ : XS) (x1 : Int32) (ls : Array Slot), k2 σ x1 = some r → agW false wx_X1_begin σ0 σ → lq ls 2 [(0, some (.ref th)), (1, some (.int x1))] → ZX p l e 3 TL SL s m args below meth c D cx ro A false wx_X1_begin σ0 none r σ (F0 m 2 ls []))) (σ : XS) (x1 : Int32) (ls : Array Slot), X_X1_begin_B2 G th k2 σ x1 = some r → agW false wx_X1_begin σ0 σ → lq ls 2 [(0, some (.ref th)), (1, some (.int x1))] → ZX p l e 3 TL SL s m args below meth c D cx ro A false wx_X1_begin σ0 none r σ (F0 m 2 ls []) := by
    intro k2 hk2 σ x1 ls hF ha hl
    unfold X_X1_begin_B2 at hF
    refine g_iload_n (i := 1) K hl dX1_begin_2 rfl rfl ?_
    refine g_aload_n (i := 0) K hl dX1_begin_3 rfl rfl ?_
    refine xg_X1_28 X hF dX1_begin_4 (fun t1 hF => ?_)
    have hlZ := hl
    obtain ⟨q2, hq9, ht_q2, hZ⟩ := nnX_i hF
    cases hq9
    have hF := hZ
    clear hZ
    have hl := hlZ
    clear hlZ
    refine x_callP (V := Value.int) hF (fun t h => x_rV X hl (w_J2_size _ _  t h) ht_q2 rfl rfl cpx_J2_size q982 rfl rfl rfl rfl (cat_room rfl) dX1_begin_7) (fun t3 hF => ?_)
    refine g_icmp_ge (tgt := 33) K hF dX1_begin_10 (by decide) (fun hF => ?_) (fun hF => ?_)
    · refine g_iconst K dX1_begin_33 lc_0 ?_
      refine g_istore_n (i := 1) K hl dX1_begin_34 rfl rfl rfl (fun ls hl => ?_)
      exact L35  G _ _ ls hF ha (lq_sub hl rfl)
    · refine g_aload_n (i := 0) K hl dX1_begin_13 rfl rfl ?_
      refine xg_X1_28 X hF dX1_begin_14 (fun t4 hF => ?_)
      refine g_iload_n (i := 1) K hl dX1_begin_17 rfl rfl ?_
      have hlZ := hl
      obtain ⟨q5, hq9, ht_q5, hZ⟩ := nnX_i hF
      cases hq9
      have hF := hZ
      clear hZ
      have hl := hlZ
      clear hlZ
      refine x_callP (V := va_rf) hF (fun t h => x_rV X hl (w_J2_get _ _ _ t h) ht_q5 rfl rfl cpx_J2_get q983 rfl rfl rfl rfl (cat_room rfl) dX1_begin_18) (fun t6 hF => ?_)
      refine x_cast X hF rfl q984 dX1_begin_21 (fun hF => ?_)
      have hlZ := hl
      obtain ⟨q7, hq9, ht_q7, hZ⟩ := nnX_i hF
      cases hq9
      have hF := hZ
      clear hZ
      have hl := hlZ
      clear hlZ
      refine x_callV hF ha rfl (fun t h => x_rV X hl (w_X13_begin _ _  t h) ht_q7 rfl rfl cpx_X13_begin q985 rfl rfl rfl rfl (cat_room rfl) dX1_begin_24) (fun σ8 hF ha => ?_)
      refine g_iinc (i := 1) K hl dX1_begin_27 rfl lc_1 rfl rfl (fun ls hl => ?_)
      refine g_goto (tgt := 2) K dX1_begin_30 (by decide) ?_
      exact hk2 _ _ ls hF ha (lq_sub hl rfl)
  have L2 : ∀ (n : Nat) (σ : XS) (x1 : Int32) (ls : Array Slot), X_X1_begin_L2 G th  n σ x1 = some r → agW false wx_X1_begin σ0 σ → lq ls 2 [(0, some (.ref th)), (1, some (.int x1))] → ZX p l e 3 TL SL s m args below meth c D cx ro A false wx_X1_begin σ0 none r σ (F0 m 2 ls []) := by
    intro  n
    induction n with
    | zero => intro σ x1 ls hF; exact absurd hF (fun h => by cases h)
    | succ n ih => intro σ x1 ls hF ha hl; exact B2  _ ih _ _ ls hF ha hl
  have ha : agW false wx_X1_begin σ0 σ0 := agW.rf
  unfold X_X1_begin at hF
  refine g_iconst K dX1_begin_0 lc_0 ?_
  refine g_istore_n (i := 1) K hl dX1_begin_1 rfl rfl rfl (fun ls hl => ?_)
  exact L2  G _ _ ls hF ha (lq_sub hl rfl)

theorem cpx_X0_fits : cpV yX0_fits cX0_fits 5 (some .int) 1 := ⟨q1462, q1463, q145, q1464, by decide +kernel⟩
set_option maxHeartbeats 4000000 in
set_option maxRecDepth 100000 in
theorem w_X0_fits {l : Launch} {D : va_G} {cx ro : Nat → Nat} {A : Nat → Prop} {TL SL : Nat} (G : Nat) (σ0 : XS) (th : Nat) (a0 : Int32) (r : (Int32 × XS)) (hF : X_X0_fits TL SL G σ0 th a0 = some r) : xMet l D cx ro A TL SL yX0_fits cX0_fits 5 (some .int) 197 true wx_X0_fits [.ref th, .int a0] σ0 (some (.int r.1)) r.2 := by
  refine x_of (l9 := [(0, some (.ref th)), (1, some (.int a0))]) (by decide) (by exact Nat.le_of_ble_eq_true rfl) (by rfl) ?_
  intro p e s m args below meth c ls X K hnm hl hlm
  have L67 : ∀ (k20 : XS → Int32 → Option Nat → Int32 → Int32 → Option (Int32 × XS)) (hk20 : (∀ (σ : XS) (x1 : Int32) (x2 : Option Nat) (x3 : Int32) (x4 : Int32) (ls : Array Slot), k20 σ x1 x2 x3 x4 = some r → agW true wx_X0_fits σ0 σ → lq ls 5 [(0, some (.ref th)), (1, some (.int x1)), (2, some (va_rf x2)), (3, some (.int x3)), (4, some (.int x4))] → ZX p l e 197 TL SL s m args below meth c D cx ro A true wx_X0_fits σ0 (some (.int r.1)) r.2 σ (F0 m 20 ls []))) (σ : XS) (x1 : Int32) (x2 : Option Nat) (x4 : Int32) (s0 : Int32) (s1 : Int32) (ls : Array Slot), X_X0_fits_L67 TL SL G th k20 σ x1 x2 x4 s0 s1 = some r → agW true wx_X0_fits σ0 σ → lq ls 5 [(0, some (.ref th)), (1, some (.int x1)), (2, some (va_rf x2)), (4, some (.int x4))] → ZX p l e 197 TL SL s m args below meth c D cx ro A true wx_X0_fits σ0 (some (.int r.1)) r.2 σ (F0 m 67 ls [.int s1, .int s0]) := by
    intro k20 hk20 σ x1 x2 x4 s0 s1 ls hF ha hl
    unfold X_X0_fits_L67 at hF
    refine g_ior K dX0_fits_67 ?_
    refine g_istore_n (i := 3) K hl dX0_fits_68 rfl rfl (lkn_rf rfl) (fun ls hl => ?_)
    refine g_iinc (i := 4) K hl dX0_fits_69 rfl lc_1 rfl rfl (fun ls hl => ?_)
    refine g_goto (tgt := 20) K dX0_fits_72 (by decide) ?_
    exact hk20 _ _ _ _ _ ls hF ha (lq_sub hl rfl)
  have B20 : ∀ (k20 : XS → Int32 → Option Nat → Int32 → Int32 → Option (Int32 × XS)) (hk20 : (∀ (σ : XS) (x1 : Int32) (x2 : Option Nat) (x3 : Int32) (x4 : Int32) (ls : Array Slot), k20 σ x1 x2 x3 x4 = some r → agW true wx_X0_fits σ0 σ → lq ls 5 [(0, some (.ref th)), (1, some (.int x1)), (2, some (va_rf x2)), (3, some (.int x3)), (4, some (.int x4))] → ZX p l e 197 TL SL s m args below meth c D cx ro A true wx_X0_fits σ0 (some (.int r.1)) r.2 σ (F0 m 20 ls []))) (σ : XS) (x1 : Int32) (x2 : Option Nat) (x3 : Int32) (x4 : Int32) (ls : Array Slot), X_X0_fits_B20 TL SL G th k20 σ x1 x2 x3 x4 = some r → agW true wx_X0_fits σ0 σ → lq ls 5 [(0, some (.ref th)), (1, some (.int x1)), (2, some (va_rf x2)), (3, some (.int x3)), (4, some (.int x4))] → ZX p l e 197 TL SL s m args below meth c D cx ro A true wx_X0_fits σ0 (some (.int r.1)) r.2 σ (F0 m 20 ls []) := by
    intro k20 hk20 σ x1 x2 x3 x4 ls hF ha hl
    unfold X_X0_fits_B20 at hF
    refine g_iload (i := 4) K hl dX0_fits_20 rfl ?_
    refine g_aload_n (i := 0) K hl dX0_fits_22 rfl rfl ?_
    refine xg_X0_12 X hF dX0_fits_23 (fun t1 hF => ?_)
    refine xg_X0_97 X hF dX0_fits_26 (fun t2 hF => ?_)
    have hlZ := hl
    obtain ⟨q3, hq9, ht_q3, hZ⟩ := nnX_i hF
    cases hq9
    have hF := hZ
    clear hZ
    have hl := hlZ
    clear hlZ
    refine x_callP (V := Value.int) hF (fun t h => x_rV X hl (w_J2_size _ _  t h) ht_q3 rfl rfl cpx_J2_size q994 rfl rfl rfl rfl (cat_room rfl) dX0_fits_29) (fun t4 hF => ?_)
    refine g_icmp_ge (tgt := 75) K hF dX0_fits_32 (by decide) (fun hF => ?_) (fun hF => ?_)
    · refine g_aload_n (i := 0) K hl dX0_fits_75 rfl rfl ?_
      refine xg_X0_12 X hF dX0_fits_76 (fun t5 hF => ?_)
      refine g_aloadR_n (i := 2) K hl dX0_fits_79 rfl rfl ?_
      have hlZ := hl
      obtain ⟨q6, hq9, ht_q6, hZ⟩ := nnX_i hF
      cases hq9
      have hF := hZ
      clear hZ
      have hl := hlZ
      clear hlZ
      refine x_callV hF ha rfl (fun t h => x_rV X hl (w_X1_bring G _ _ _ t h) ht_q6 rfl rfl cpx_X1_bring q1283 rfl rfl rfl rfl (cat_room rfl) dX0_fits_80) (fun σ7 hF ha => ?_)
      refine g_iload_n (i := 3) K hl dX0_fits_83 rfl rfl ?_
      exact x_iretW X hF ha dX0_fits_84
    · refine g_iload_n (i := 3) K hl dX0_fits_35 rfl rfl ?_
      refine g_aload_n (i := 0) K hl dX0_fits_36 rfl rfl ?_
      refine g_aload_n (i := 0) K hl dX0_fits_37 rfl rfl ?_
      refine xg_X0_12 X hF dX0_fits_38 (fun t8 hF => ?_)
      refine xg_X0_97 X hF dX0_fits_41 (fun t9 hF => ?_)
      refine g_iload (i := 4) K hl dX0_fits_44 rfl ?_
      have hlZ := hl
      obtain ⟨q10, hq9, ht_q10, hZ⟩ := nnX_i hF
      cases hq9
      have hF := hZ
      clear hZ
      have hl := hlZ
      clear hlZ
      refine x_callP (V := va_rf) hF (fun t h => x_rV X hl (w_J2_get _ _ _ t h) ht_q10 rfl rfl cpx_J2_get q1010 rfl rfl rfl rfl (cat_room rfl) dX0_fits_46) (fun t11 hF => ?_)
      refine x_cast X hF rfl q1142 dX0_fits_49 (fun hF => ?_)
      refine g_iload_n (i := 1) K hl dX0_fits_52 rfl rfl ?_
      have hlZ := hl
      obtain ⟨q12, hq9, ht_q12, hZ⟩ := nnX_i hF
      cases hq9
      have hF := hZ
      clear hZ
      have hl := hlZ
      clear hlZ
      refine x_callW (V := Value.int) hF ha rfl (fun t h => x_rV X hl (w_X0_wrongBy G _ _ _ _ t h) ht_q12 rfl rfl cpx_X0_wrongBy q1466 rfl rfl rfl rfl (cat_room rfl) dX0_fits_53) (fun t13 σ14 hF ha => ?_)
      refine g_if_ne (tgt := 66) K hF dX0_fits_56 (by decide) (fun hF => ?_) (fun hF => ?_)
      · refine g_iconst K dX0_fits_66 lc_0 ?_
        exact L67 k20 hk20 _ _ _ _ _ _ ls hF ha (lq_sub hl rfl)
      · refine g_iconst K dX0_fits_59 lc_1 ?_
        refine g_iload (i := 4) K hl dX0_fits_60 rfl ?_
        refine g_ishl K dX0_fits_62 ?_
        refine g_goto (tgt := 67) K dX0_fits_63 (by decide) ?_
        exact L67 k20 hk20 _ _ _ _ _ _ ls hF ha (lq_sub hl rfl)
  have L20 : ∀ (n : Nat) (σ : XS) (x1 : Int32) (x2 : Option Nat) (x3 : Int32) (x4 : Int32) (ls : Array Slot), X_X0_fits_L20 TL SL G th  n σ x1 x2 x3 x4 = some r → agW true wx_X0_fits σ0 σ → lq ls 5 [(0, some (.ref th)), (1, some (.int x1)), (2, some (va_rf x2)), (3, some (.int x3)), (4, some (.int x4))] → ZX p l e 197 TL SL s m args below meth c D cx ro A true wx_X0_fits σ0 (some (.int r.1)) r.2 σ (F0 m 20 ls []) := by
    intro  n
    induction n with
    | zero => intro σ x1 x2 x3 x4 ls hF; exact absurd hF (fun h => by cases h)
    | succ n ih => intro σ x1 x2 x3 x4 ls hF ha hl; exact B20  _ ih _ _ _ _ _ ls hF ha hl
  have ha : agW true wx_X0_fits σ0 σ0 := agW.rf
  unfold X_X0_fits at hF
  refine g_aload_n (i := 0) K hl dX0_fits_0 rfl rfl ?_
  refine xg_X0_12 X hF dX0_fits_1 (fun t1 hF => ?_)
  have hlZ := hl
  obtain ⟨q2, hq9, ht_q2, hZ⟩ := nnX_i hF
  cases hq9
  have hF := hZ
  clear hZ
  have hl := hlZ
  clear hlZ
  refine x_callW (V := va_rf) hF ha rfl (fun t h => x_rV X hl (w_X1_keep G _ _  t h) ht_q2 rfl rfl cpx_X1_keep q1170 rfl rfl rfl rfl (cat_room rfl) dX0_fits_4) (fun t3 σ4 hF ha => ?_)
  refine g_astoreR_n (i := 2) K hl dX0_fits_7 rfl rfl rfl (fun ls hl => ?_)
  refine g_iconst K dX0_fits_8 lc_0 ?_
  refine g_istore_n (i := 3) K hl dX0_fits_9 rfl rfl (lkn_rf rfl) (fun ls hl => ?_)
  refine g_aload_n (i := 0) K hl dX0_fits_10 rfl rfl ?_
  refine xg_X0_12 X hF dX0_fits_11 (fun t5 hF => ?_)
  have hlZ := hl
  obtain ⟨q6, hq9, ht_q6, hZ⟩ := nnX_i hF
  cases hq9
  have hF := hZ
  clear hZ
  have hl := hlZ
  clear hlZ
  refine x_callV hF ha rfl (fun t h => x_rV X hl (w_X1_begin G _ _  t h) ht_q6 rfl rfl cpx_X1_begin q1465 rfl rfl rfl rfl (cat_room rfl) dX0_fits_14) (fun σ7 hF ha => ?_)
  refine g_iconst K dX0_fits_17 lc_0 ?_
  refine g_istore (i := 4) K hl dX0_fits_18 rfl rfl (fun ls hl => ?_)
  exact L20  G _ _ _ _ _ ls hF ha (lq_sub hl rfl)

theorem cpx_X0_nearest : cpV yX0_nearest cX0_nearest 6 (some .int) 2 := ⟨q1480, q1481, q145, q1482, by decide +kernel⟩
set_option maxHeartbeats 4000000 in
set_option maxRecDepth 100000 in
theorem w_X0_nearest {l : Launch} {D : va_G} {cx ro : Nat → Nat} {A : Nat → Prop} {TL SL : Nat} (G : Nat) (σ0 : XS) (th : Nat) (a0 : Int32) (a1 : Int32) (r : (Int32 × XS)) (hF : X_X0_nearest TL SL G σ0 th a0 a1 = some r) : xMet l D cx ro A TL SL yX0_nearest cX0_nearest 6 (some .int) 197 true wx_X0_nearest [.ref th, .int a0, .int a1] σ0 (some (.int r.1)) r.2 := by
  refine x_of (l9 := [(0, some (.ref th)), (1, some (.int a0)), (2, some (.int a1))]) (by decide) (by exact Nat.le_of_ble_eq_true rfl) (by rfl) ?_
  intro p e s m args below meth c ls X K hnm hl hlm
  have B45 : ∀ (k45 : XS → Int32 → Int32 → Option Nat → Int32 → Int32 → Option (Int32 × XS)) (hk45 : (∀ (σ : XS) (x1 : Int32) (x2 : Int32) (x3 : Option Nat) (x4 : Int32) (x5 : Int32) (ls : Array Slot), k45 σ x1 x2 x3 x4 x5 = some r → agW true wx_X0_nearest σ0 σ → lq ls 6 [(0, some (.ref th)), (1, some (.int x1)), (2, some (.int x2)), (3, some (va_rf x3)), (4, some (.int x4)), (5, some (.int x5))] → ZX p l e 197 TL SL s m args below meth c D cx ro A true wx_X0_nearest σ0 (some (.int r.1)) r.2 σ (F0 m 45 ls []))) (σ : XS) (x1 : Int32) (x2 : Int32) (x3 : Option Nat) (x4 : Int32) (x5 : Int32) (ls : Array Slot), X_X0_nearest_B45 TL SL G th k45 σ x1 x2 x3 x4 x5 = some r → agW true wx_X0_nearest σ0 σ → lq ls 6 [(0, some (.ref th)), (1, some (.int x1)), (2, some (.int x2)), (3, some (va_rf x3)), (4, some (.int x4)), (5, some (.int x5))] → ZX p l e 197 TL SL s m args below meth c D cx ro A true wx_X0_nearest σ0 (some (.int r.1)) r.2 σ (F0 m 45 ls []) := by
    intro k45 hk45 σ x1 x2 x3 x4 x5 ls hF ha hl
    unfold X_X0_nearest_B45 at hF
    refine g_iload (i := 5) K hl dX0_nearest_45 rfl ?_
    refine g_aload_n (i := 0) K hl dX0_nearest_47 rfl rfl ?_
    refine xg_X0_12 X hF dX0_nearest_48 (fun t1 hF => ?_)
    refine xg_X0_97 X hF dX0_nearest_51 (fun t2 hF => ?_)
    have hlZ := hl
    obtain ⟨q3, hq9, ht_q3, hZ⟩ := nnX_i hF
    cases hq9
    have hF := hZ
    clear hZ
    have hl := hlZ
    clear hlZ
    refine x_callP (V := Value.int) hF (fun t h => x_rV X hl (w_J2_size _ _  t h) ht_q3 rfl rfl cpx_J2_size q994 rfl rfl rfl rfl (cat_room rfl) dX0_nearest_54) (fun t4 hF => ?_)
    refine g_icmp_ge (tgt := 113) K hF dX0_nearest_57 (by decide) (fun hF => ?_) (fun hF => ?_)
    · refine g_aload_n (i := 0) K hl dX0_nearest_113 rfl rfl ?_
      refine g_aload_n (i := 0) K hl dX0_nearest_114 rfl rfl ?_
      refine xg_X0_12 X hF dX0_nearest_115 (fun t5 hF => ?_)
      refine xg_X0_97 X hF dX0_nearest_118 (fun t6 hF => ?_)
      refine g_iload (i := 4) K hl dX0_nearest_121 rfl ?_
      have hlZ := hl
      obtain ⟨q7, hq9, ht_q7, hZ⟩ := nnX_i hF
      cases hq9
      have hF := hZ
      clear hZ
      have hl := hlZ
      clear hlZ
      refine x_callP (V := va_rf) hF (fun t h => x_rV X hl (w_J2_get _ _ _ t h) ht_q7 rfl rfl cpx_J2_get q1010 rfl rfl rfl rfl (cat_room rfl) dX0_nearest_123) (fun t8 hF => ?_)
      refine x_cast X hF rfl q1142 dX0_nearest_126 (fun hF => ?_)
      refine g_iload_n (i := 2) K hl dX0_nearest_129 rfl rfl ?_
      have hlZ := hl
      obtain ⟨q9, hq9, ht_q9, hZ⟩ := nnX_i hF
      cases hq9
      have hF := hZ
      clear hZ
      have hl := hlZ
      clear hlZ
      refine x_callW (V := Value.int) hF ha rfl (fun t h => x_rV X hl (w_X0_wrongBy G _ _ _ _ t h) ht_q9 rfl rfl cpx_X0_wrongBy q1466 rfl rfl rfl rfl (cat_room rfl) dX0_nearest_130) (fun t10 σ11 hF ha => ?_)
      refine g_istore (i := 5) K hl dX0_nearest_133 rfl rfl (fun ls hl => ?_)
      refine g_aload_n (i := 0) K hl dX0_nearest_135 rfl rfl ?_
      refine xg_X0_12 X hF dX0_nearest_136 (fun t12 hF => ?_)
      refine g_aloadR_n (i := 3) K hl dX0_nearest_139 rfl rfl ?_
      have hlZ := hl
      obtain ⟨q13, hq9, ht_q13, hZ⟩ := nnX_i hF
      cases hq9
      have hF := hZ
      clear hZ
      have hl := hlZ
      clear hlZ
      refine x_callV hF ha rfl (fun t h => x_rV X hl (w_X1_bring G _ _ _ t h) ht_q13 rfl rfl cpx_X1_bring q1283 rfl rfl rfl rfl (cat_room rfl) dX0_nearest_140) (fun σ14 hF ha => ?_)
      refine g_iload_n (i := 1) K hl dX0_nearest_143 rfl rfl ?_
      refine g_if_ne (tgt := 152) K hF dX0_nearest_144 (by decide) (fun hF => ?_) (fun hF => ?_)
      · refine g_iload (i := 5) K hl dX0_nearest_152 rfl ?_
        exact x_iretW X hF ha dX0_nearest_154
      · refine g_iload (i := 4) K hl dX0_nearest_147 rfl ?_
        refine g_goto (tgt := 154) K dX0_nearest_149 (by decide) ?_
        exact x_iretW X hF ha dX0_nearest_154
    · refine g_aload_n (i := 0) K hl dX0_nearest_60 rfl rfl ?_
      refine g_aload_n (i := 0) K hl dX0_nearest_61 rfl rfl ?_
      refine xg_X0_12 X hF dX0_nearest_62 (fun t15 hF => ?_)
      refine xg_X0_97 X hF dX0_nearest_65 (fun t16 hF => ?_)
      refine g_iload (i := 5) K hl dX0_nearest_68 rfl ?_
      have hlZ := hl
      obtain ⟨q17, hq9, ht_q17, hZ⟩ := nnX_i hF
      cases hq9
      have hF := hZ
      clear hZ
      have hl := hlZ
      clear hlZ
      refine x_callP (V := va_rf) hF (fun t h => x_rV X hl (w_J2_get _ _ _ t h) ht_q17 rfl rfl cpx_J2_get q1010 rfl rfl rfl rfl (cat_room rfl) dX0_nearest_70) (fun t18 hF => ?_)
      refine x_cast X hF rfl q1142 dX0_nearest_73 (fun hF => ?_)
      refine g_iload_n (i := 2) K hl dX0_nearest_76 rfl rfl ?_
      have hlZ := hl
      obtain ⟨q19, hq9, ht_q19, hZ⟩ := nnX_i hF
      cases hq9
      have hF := hZ
      clear hZ
      have hl := hlZ
      clear hlZ
      refine x_callW (V := Value.int) hF ha rfl (fun t h => x_rV X hl (w_X0_wrongBy G _ _ _ _ t h) ht_q19 rfl rfl cpx_X0_wrongBy q1466 rfl rfl rfl rfl (cat_room rfl) dX0_nearest_77) (fun t20 σ21 hF ha => ?_)
      refine g_aload_n (i := 0) K hl dX0_nearest_80 rfl rfl ?_
      refine g_aload_n (i := 0) K hl dX0_nearest_81 rfl rfl ?_
      refine xg_X0_12 X hF dX0_nearest_82 (fun t22 hF => ?_)
      refine xg_X0_97 X hF dX0_nearest_85 (fun t23 hF => ?_)
      refine g_iload (i := 4) K hl dX0_nearest_88 rfl ?_
      have hlZ := hl
      obtain ⟨q24, hq9, ht_q24, hZ⟩ := nnX_i hF
      cases hq9
      have hF := hZ
      clear hZ
      have hl := hlZ
      clear hlZ
      refine x_callP (V := va_rf) hF (fun t h => x_rV X hl (w_J2_get _ _ _ t h) ht_q24 rfl rfl cpx_J2_get q1010 rfl rfl rfl rfl (cat_room rfl) dX0_nearest_90) (fun t25 hF => ?_)
      refine x_cast X hF rfl q1142 dX0_nearest_93 (fun hF => ?_)
      refine g_iload_n (i := 2) K hl dX0_nearest_96 rfl rfl ?_
      have hlZ := hl
      obtain ⟨q26, hq9, ht_q26, hZ⟩ := nnX_i hF
      cases hq9
      have hF := hZ
      clear hZ
      have hl := hlZ
      clear hlZ
      refine x_callW (V := Value.int) hF ha rfl (fun t h => x_rV X hl (w_X0_wrongBy G _ _ _ _ t h) ht_q26 rfl rfl cpx_X0_wrongBy q1466 rfl rfl rfl rfl (cat_room rfl) dX0_nearest_97) (fun t27 σ28 hF ha => ?_)
      refine g_icmp_ge (tgt := 107) K hF dX0_nearest_100 (by decide) (fun hF => ?_) (fun hF => ?_)
      · refine g_iinc (i := 5) K hl dX0_nearest_107 rfl lc_1 rfl rfl (fun ls hl => ?_)
        refine g_goto (tgt := 45) K dX0_nearest_110 (by decide) ?_
        exact hk45 _ _ _ _ _ _ ls hF ha (lq_sub hl rfl)
      · refine g_iload (i := 5) K hl dX0_nearest_103 rfl ?_
        refine g_istore (i := 4) K hl dX0_nearest_105 rfl (lkn_rf rfl) (fun ls hl => ?_)
        refine g_iinc (i := 5) K hl dX0_nearest_107 rfl lc_1 rfl rfl (fun ls hl => ?_)
        refine g_goto (tgt := 45) K dX0_nearest_110 (by decide) ?_
        exact hk45 _ _ _ _ _ _ ls hF ha (lq_sub hl rfl)
  have L45 : ∀ (n : Nat) (σ : XS) (x1 : Int32) (x2 : Int32) (x3 : Option Nat) (x4 : Int32) (x5 : Int32) (ls : Array Slot), X_X0_nearest_L45 TL SL G th  n σ x1 x2 x3 x4 x5 = some r → agW true wx_X0_nearest σ0 σ → lq ls 6 [(0, some (.ref th)), (1, some (.int x1)), (2, some (.int x2)), (3, some (va_rf x3)), (4, some (.int x4)), (5, some (.int x5))] → ZX p l e 197 TL SL s m args below meth c D cx ro A true wx_X0_nearest σ0 (some (.int r.1)) r.2 σ (F0 m 45 ls []) := by
    intro  n
    induction n with
    | zero => intro σ x1 x2 x3 x4 x5 ls hF; exact absurd hF (fun h => by cases h)
    | succ n ih => intro σ x1 x2 x3 x4 x5 ls hF ha hl; exact B45  _ ih _ _ _ _ _ _ ls hF ha hl
  have ha : agW true wx_X0_nearest σ0 σ0 := agW.rf
  unfold X_X0_nearest at hF
  refine g_iload_n (i := 1) K hl dX0_nearest_0 rfl rfl ?_
  refine g_iconst K dX0_nearest_1 lc_0 ?_
  refine g_iconst K dX0_nearest_2 lc_1 ?_
  refine x_callP (V := Value.int) hF (fun t h => x_rS X hl (w_X0_isIn _ _ _ _ t h) cpx_X0_isIn q1007 rfl rfl rfl rfl (cat_room rfl) dX0_nearest_3) (fun t1 hF => ?_)
  refine g_if_eq (tgt := 22) K hF dX0_nearest_6 (by decide) (fun hF => ?_) (fun hF => ?_)
  · refine g_iconst K dX0_nearest_22 lc_m1 ?_
    exact x_iretW X hF ha dX0_nearest_23
  · refine g_aload_n (i := 0) K hl dX0_nearest_9 rfl rfl ?_
    refine xg_X0_12 X hF dX0_nearest_10 (fun t2 hF => ?_)
    refine xg_X0_97 X hF dX0_nearest_13 (fun t3 hF => ?_)
    have hlZ := hl
    obtain ⟨q4, hq9, ht_q4, hZ⟩ := nnX_i hF
    cases hq9
    have hF := hZ
    clear hZ
    have hl := hlZ
    clear hlZ
    refine x_callP (V := Value.int) hF (fun t h => x_rV X hl (w_J2_isEmpty _ _  t h) ht_q4 rfl rfl cpx_J2_isEmpty q1138 rfl rfl rfl rfl (cat_room rfl) dX0_nearest_16) (fun t5 hF => ?_)
    refine g_if_eq (tgt := 24) K hF dX0_nearest_19 (by decide) (fun hF => ?_) (fun hF => ?_)
    · refine g_aload_n (i := 0) K hl dX0_nearest_24 rfl rfl ?_
      refine xg_X0_12 X hF dX0_nearest_25 (fun t6 hF => ?_)
      have hlZ := hl
      obtain ⟨q7, hq9, ht_q7, hZ⟩ := nnX_i hF
      cases hq9
      have hF := hZ
      clear hZ
      have hl := hlZ
      clear hlZ
      refine x_callW (V := va_rf) hF ha rfl (fun t h => x_rV X hl (w_X1_keep G _ _  t h) ht_q7 rfl rfl cpx_X1_keep q1170 rfl rfl rfl rfl (cat_room rfl) dX0_nearest_28) (fun t8 σ9 hF ha => ?_)
      refine g_astoreR_n (i := 3) K hl dX0_nearest_31 rfl rfl rfl (fun ls hl => ?_)
      refine g_iconst K dX0_nearest_32 lc_0 ?_
      refine g_istore (i := 4) K hl dX0_nearest_33 rfl (lkn_rf rfl) (fun ls hl => ?_)
      refine g_aload_n (i := 0) K hl dX0_nearest_35 rfl rfl ?_
      refine xg_X0_12 X hF dX0_nearest_36 (fun t10 hF => ?_)
      have hlZ := hl
      obtain ⟨q11, hq9, ht_q11, hZ⟩ := nnX_i hF
      cases hq9
      have hF := hZ
      clear hZ
      have hl := hlZ
      clear hlZ
      refine x_callV hF ha rfl (fun t h => x_rV X hl (w_X1_begin G _ _  t h) ht_q11 rfl rfl cpx_X1_begin q1465 rfl rfl rfl rfl (cat_room rfl) dX0_nearest_39) (fun σ12 hF ha => ?_)
      refine g_iconst K dX0_nearest_42 lc_1 ?_
      refine g_istore (i := 5) K hl dX0_nearest_43 rfl rfl (fun ls hl => ?_)
      exact L45  G _ _ _ _ _ _ ls hF ha (lq_sub hl rfl)
    · refine g_iconst K dX0_nearest_22 lc_m1 ?_
      exact x_iretW X hF ha dX0_nearest_23

theorem cpx_X0_chance : cpV yX0_chance cX0_chance 5 (some .long) 1 := ⟨q1484, q1485, q145, q1486, by decide +kernel⟩
set_option maxHeartbeats 4000000 in
set_option maxRecDepth 100000 in
theorem w_X0_chance {l : Launch} {D : va_G} {cx ro : Nat → Nat} {A : Nat → Prop} {TL SL : Nat} (G : Nat) (σ0 : XS) (th : Nat) (a0 : Int32) (r : Int64) (hF : X_X0_chance G σ0 th a0 = some r) : xMet l D cx ro A TL SL yX0_chance cX0_chance 5 (some .long) 3 false wx_X0_chance [.ref th, .int a0] σ0 (some (.long r)) σ0 := by
  refine x_of (l9 := [(0, some (.ref th)), (1, some (.int a0))]) (by decide) (by exact Nat.le_of_ble_eq_true rfl) (by rfl) ?_
  intro p e s m args below meth c ls X K hnm hl hlm
  have B5 : ∀ (k5 : Int32 → Int64 → Int32 → Option Int64) (hk5 : (∀ (x1 : Int32) (x2 : Int64) (x4 : Int32) (ls : Array Slot), k5 x1 x2 x4 = some r → lq ls 5 [(0, some (.ref th)), (1, some (.int x1)), (2, some (.long x2)), (4, some (.int x4))] → ZX p l e 3 TL SL s m args below meth c D cx ro A false wx_X0_chance σ0 (some (.long r)) σ0 σ0 (F0 m 5 ls []))) (x1 : Int32) (x2 : Int64) (x4 : Int32) (ls : Array Slot), X_X0_chance_B5 G σ0 th k5 x1 x2 x4 = some r → lq ls 5 [(0, some (.ref th)), (1, some (.int x1)), (2, some (.long x2)), (4, some (.int x4))] → ZX p l e 3 TL SL s m args below meth c D cx ro A false wx_X0_chance σ0 (some (.long r)) σ0 σ0 (F0 m 5 ls []) := by
    intro k5 hk5 x1 x2 x4 ls hF hl
    unfold X_X0_chance_B5 at hF
    refine g_iload (i := 4) K hl dX0_chance_5 rfl ?_
    refine g_aload_n (i := 0) K hl dX0_chance_7 rfl rfl ?_
    refine xg_X0_44 X hF dX0_chance_8 (fun t1 hF => ?_)
    have hlZ := hl
    obtain ⟨q2, hq9, ht_q2, hZ⟩ := nnX_i hF
    cases hq9
    have hF := hZ
    clear hZ
    have hl := hlZ
    clear hlZ
    refine x_callP (V := Value.int) hF (fun t h => x_rV X hl (w_J2_size _ _  t h) ht_q2 rfl rfl cpx_J2_size q994 rfl rfl rfl rfl (cat_room rfl) dX0_chance_11) (fun t3 hF => ?_)
    refine g_icmp_ge (tgt := 79) K hF dX0_chance_14 (by decide) (fun hF => ?_) (fun hF => ?_)
    · refine g_lload_n (i := 2) K hl dX0_chance_79 rfl rfl ?_
      exact x_lretP X hF agW.rf dX0_chance_80
    · refine g_aload_n (i := 0) K hl dX0_chance_17 rfl rfl ?_
      refine xg_X0_44 X hF dX0_chance_18 (fun t4 hF => ?_)
      refine g_iload (i := 4) K hl dX0_chance_21 rfl ?_
      have hlZ := hl
      obtain ⟨q5, hq9, ht_q5, hZ⟩ := nnX_i hF
      cases hq9
      have hF := hZ
      clear hZ
      have hl := hlZ
      clear hlZ
      refine x_callP (V := va_rf) hF (fun t h => x_rV X hl (w_J2_get _ _ _ t h) ht_q5 rfl rfl cpx_J2_get q1010 rfl rfl rfl rfl (cat_room rfl) dX0_chance_23) (fun t6 hF => ?_)
      refine x_cast X hF rfl q1426 dX0_chance_26 (fun hF => ?_)
      refine g_iload_n (i := 1) K hl dX0_chance_29 rfl rfl ?_
      have hlZ := hl
      obtain ⟨q7, hq9, ht_q7, hZ⟩ := nnX_i hF
      cases hq9
      have hF := hZ
      clear hZ
      have hl := hlZ
      clear hlZ
      refine x_callP (V := Value.int) hF (fun t h => x_rV X hl (w_X15_counts _ _ _ t h) ht_q7 rfl rfl cpx_X15_counts q1470 rfl rfl rfl rfl (cat_room rfl) dX0_chance_30) (fun t8 hF => ?_)
      refine g_if_ne (tgt := 39) K hF dX0_chance_33 (by decide) (fun hF => ?_) (fun hF => ?_)
      · refine g_lload_n (i := 2) K hl dX0_chance_39 rfl rfl ?_
        refine g_aload_n (i := 0) K hl dX0_chance_40 rfl rfl ?_
        refine xg_X0_44 X hF dX0_chance_41 (fun t9 hF => ?_)
        refine g_iload (i := 4) K hl dX0_chance_44 rfl ?_
        have hlZ := hl
        obtain ⟨q10, hq9, ht_q10, hZ⟩ := nnX_i hF
        cases hq9
        have hF := hZ
        clear hZ
        have hl := hlZ
        clear hlZ
        refine x_callP (V := va_rf) hF (fun t h => x_rV X hl (w_J2_get _ _ _ t h) ht_q10 rfl rfl cpx_J2_get q1010 rfl rfl rfl rfl (cat_room rfl) dX0_chance_46) (fun t11 hF => ?_)
        refine x_cast X hF rfl q1426 dX0_chance_49 (fun hF => ?_)
        refine xg_X0_345 X hF dX0_chance_52 (fun t12 hF => ?_)
        refine x_callP (V := Value.int) hF (fun t h => x_rS X hl (w_J13_bitCount _ _ t h) cpx_J13_bitCount q1396 rfl rfl rfl rfl (cat_room rfl) dX0_chance_55) (fun t13 hF => ?_)
        refine g_i2l K dX0_chance_58 ?_
        refine g_lmul K dX0_chance_59 ?_
        refine g_lstore_n (i := 2) K hl dX0_chance_60 rfl rfl rfl (fun ls hl => ?_)
        refine g_lload_n (i := 2) K hl dX0_chance_61 rfl rfl ?_
        refine g_ldc2 K dX0_chance_62 q1487 ?_
        refine g_lcmp K dX0_chance_65 ?_
        refine g_if_le (tgt := 73) K hF dX0_chance_66 (by decide) (fun hF => ?_) (fun hF => ?_)
        · refine g_iinc (i := 4) K hl dX0_chance_73 rfl lc_1 rfl rfl (fun ls hl => ?_)
          refine g_goto (tgt := 5) K dX0_chance_76 (by decide) ?_
          exact hk5 _ _ _ ls hF (lq_sub hl rfl)
        · refine g_ldc2 K dX0_chance_69 q1487 ?_
          refine g_lstore_n (i := 2) K hl dX0_chance_72 rfl rfl rfl (fun ls hl => ?_)
          refine g_iinc (i := 4) K hl dX0_chance_73 rfl lc_1 rfl rfl (fun ls hl => ?_)
          refine g_goto (tgt := 5) K dX0_chance_76 (by decide) ?_
          exact hk5 _ _ _ ls hF (lq_sub hl rfl)
      · refine g_goto (tgt := 73) K dX0_chance_36 (by decide) ?_
        refine g_iinc (i := 4) K hl dX0_chance_73 rfl lc_1 rfl rfl (fun ls hl => ?_)
        refine g_goto (tgt := 5) K dX0_chance_76 (by decide) ?_
        exact hk5 _ _ _ ls hF (lq_sub hl rfl)
  have L5 : ∀ (n : Nat) (x1 : Int32) (x2 : Int64) (x4 : Int32) (ls : Array Slot), X_X0_chance_L5 G σ0 th  n x1 x2 x4 = some r → lq ls 5 [(0, some (.ref th)), (1, some (.int x1)), (2, some (.long x2)), (4, some (.int x4))] → ZX p l e 3 TL SL s m args below meth c D cx ro A false wx_X0_chance σ0 (some (.long r)) σ0 σ0 (F0 m 5 ls []) := by
    intro  n
    induction n with
    | zero => intro x1 x2 x4 ls hF; exact absurd hF (fun h => by cases h)
    | succ n ih => intro x1 x2 x4 ls hF hl; exact B5  _ ih _ _ _ ls hF hl
  unfold X_X0_chance at hF
  refine g_lconst K dX0_chance_0 ll_1 ?_
  refine g_lstore_n (i := 2) K hl dX0_chance_1 rfl rfl rfl (fun ls hl => ?_)
  refine g_iconst K dX0_chance_2 lc_0 ?_
  refine g_istore (i := 4) K hl dX0_chance_3 rfl rfl (fun ls hl => ?_)
  exact L5  G _ _ _ ls hF (lq_sub hl rfl)

theorem cpx_X0_image : cpV yX0_image cX0_image 2 (some .int) 1 := ⟨q1489, q1490, q145, q1491, by decide +kernel⟩
set_option maxHeartbeats 4000000 in
set_option maxRecDepth 100000 in
theorem w_X0_image {l : Launch} {D : va_G} {cx ro : Nat → Nat} {A : Nat → Prop} {TL SL : Nat} (G : Nat) (σ0 : XS) (th : Nat) (a0 : Int32) (r : (Int32 × XS)) (hF : X_X0_image TL SL G σ0 th a0 = some r) : xMet l D cx ro A TL SL yX0_image cX0_image 2 (some .int) 5 true wx_X0_image [.ref th, .int a0] σ0 (some (.int r.1)) r.2 := by
  refine x_of (l9 := [(0, some (.ref th)), (1, some (.int a0))]) (by decide) (by exact Nat.le_of_ble_eq_true rfl) (by rfl) ?_
  intro p e s m args below meth c ls X K hnm hl hlm
  have ha : agW true wx_X0_image σ0 σ0 := agW.rf
  unfold X_X0_image at hF
  refine g_iload_n (i := 1) K hl dX0_image_0 rfl rfl ?_
  refine g_iconst K dX0_image_1 lc_0 ?_
  refine g_iconst K dX0_image_2 lc_2 ?_
  refine x_callP (V := Value.int) hF (fun t h => x_rS X hl (w_X0_isIn _ _ _ _ t h) cpx_X0_isIn q1007 rfl rfl rfl rfl (cat_room rfl) dX0_image_3) (fun t1 hF => ?_)
  refine g_if_ne (tgt := 11) K hF dX0_image_6 (by decide) (fun hF => ?_) (fun hF => ?_)
  · refine g_aload_n (i := 0) K hl dX0_image_11 rfl rfl ?_
    refine xg_X0_52 X hF dX0_image_12 (fun t2 hF => ?_)
    refine g_iload_n (i := 1) K hl dX0_image_15 rfl rfl ?_
    refine x_aald X hF dX0_image_16 (fun t3 hF => ?_)
    refine g_aload_n (i := 0) K hl dX0_image_17 rfl rfl ?_
    refine xg_X0_12 X hF dX0_image_18 (fun t4 hF => ?_)
    have hlZ := hl
    obtain ⟨q5, hq9, ht_q5, hZ⟩ := nnX_i hF
    cases hq9
    have hF := hZ
    clear hZ
    have hl := hlZ
    clear hlZ
    refine x_callW (V := va_rf) hF ha rfl (fun t h => x_rV X hl (w_X1_keep G _ _  t h) ht_q5 rfl rfl cpx_X1_keep q1170 rfl rfl rfl rfl (cat_room rfl) dX0_image_21) (fun t6 σ7 hF ha => ?_)
    refine xp_X0_65 X hF ha rfl dX0_image_24 (fun σ8 hF ha => ?_)
    refine g_aload_n (i := 0) K hl dX0_image_27 rfl rfl ?_
    refine xg_X0_12 X hF dX0_image_28 (fun t9 hF => ?_)
    have hlZ := hl
    obtain ⟨q10, hq9, ht_q10, hZ⟩ := nnX_i hF
    cases hq9
    have hF := hZ
    clear hZ
    have hl := hlZ
    clear hlZ
    refine x_callP (V := Value.int) hF (fun t h => x_rV X hl (w_X1_left G _ _  t h) ht_q10 rfl rfl cpx_X1_left q1388 rfl rfl rfl rfl (cat_room rfl) dX0_image_31) (fun t11 hF => ?_)
    exact x_iretW X hF ha dX0_image_34
  · refine g_iconst K dX0_image_9 lc_m1 ?_
    exact x_iretW X hF ha dX0_image_10

theorem cpx_X0_back : cpV yX0_back cX0_back 2 (some .int) 1 := ⟨q1493, q1494, q145, q1495, by decide +kernel⟩
set_option maxHeartbeats 4000000 in
set_option maxRecDepth 100000 in
theorem w_X0_back {l : Launch} {D : va_G} {cx ro : Nat → Nat} {A : Nat → Prop} {TL SL : Nat} (G : Nat) (σ0 : XS) (th : Nat) (a0 : Int32) (r : (Int32 × XS)) (hF : X_X0_back G σ0 th a0 = some r) : xMet l D cx ro A TL SL yX0_back cX0_back 2 (some .int) 5 false wx_X0_back [.ref th, .int a0] σ0 (some (.int r.1)) r.2 := by
  refine x_of (l9 := [(0, some (.ref th)), (1, some (.int a0))]) (by decide) (by exact Nat.le_of_ble_eq_true rfl) (by rfl) ?_
  intro p e s m args below meth c ls X K hnm hl hlm
  have ha : agW false wx_X0_back σ0 σ0 := agW.rf
  unfold X_X0_back at hF
  refine g_iload_n (i := 1) K hl dX0_back_0 rfl rfl ?_
  refine g_iconst K dX0_back_1 lc_0 ?_
  refine g_iconst K dX0_back_2 lc_2 ?_
  refine x_callP (V := Value.int) hF (fun t h => x_rS X hl (w_X0_isIn _ _ _ _ t h) cpx_X0_isIn q1007 rfl rfl rfl rfl (cat_room rfl) dX0_back_3) (fun t1 hF => ?_)
  refine g_if_eq (tgt := 21) K hF dX0_back_6 (by decide) (fun hF => ?_) (fun hF => ?_)
  · refine g_iconst K dX0_back_21 lc_m1 ?_
    exact x_iretW X hF ha dX0_back_22
  · refine g_aload_n (i := 0) K hl dX0_back_9 rfl rfl ?_
    refine xg_X0_52 X hF dX0_back_10 (fun t2 hF => ?_)
    refine g_iload_n (i := 1) K hl dX0_back_13 rfl rfl ?_
    refine x_aald X hF dX0_back_14 (fun t3 hF => ?_)
    refine xg_X0_65 X hF dX0_back_15 (fun t4 hF => ?_)
    refine g_ifnonnull (tgt := 23) K hF dX0_back_18 (by decide) (fun hF => ?_) (fun hF => ?_)
    · refine g_aload_n (i := 0) K hl dX0_back_23 rfl rfl ?_
      refine xg_X0_12 X hF dX0_back_24 (fun t5 hF => ?_)
      refine g_aload_n (i := 0) K hl dX0_back_27 rfl rfl ?_
      refine xg_X0_52 X hF dX0_back_28 (fun t6 hF => ?_)
      refine g_iload_n (i := 1) K hl dX0_back_31 rfl rfl ?_
      refine x_aald X hF dX0_back_32 (fun t7 hF => ?_)
      refine xg_X0_65 X hF dX0_back_33 (fun t8 hF => ?_)
      have hlZ := hl
      obtain ⟨q9, hq9, ht_q9, hZ⟩ := nnX_i hF
      cases hq9
      have hF := hZ
      clear hZ
      have hl := hlZ
      clear hlZ
      refine x_callV hF ha rfl (fun t h => x_rV X hl (w_X1_bring G _ _ _ t h) ht_q9 rfl rfl cpx_X1_bring q1283 rfl rfl rfl rfl (cat_room rfl) dX0_back_36) (fun σ10 hF ha => ?_)
      refine g_aload_n (i := 0) K hl dX0_back_39 rfl rfl ?_
      refine xg_X0_27 X hF dX0_back_40 (fun t11 hF => ?_)
      have hlZ := hl
      obtain ⟨q12, hq9, ht_q12, hZ⟩ := nnX_i hF
      cases hq9
      have hF := hZ
      clear hZ
      have hl := hlZ
      clear hlZ
      refine x_callV hF ha rfl (fun t h => x_rV X hl (w_J2_clear G _ _  t h) ht_q12 rfl rfl cpx_J2_clear q309 rfl rfl rfl rfl (cat_room rfl) dX0_back_43) (fun σ13 hF ha => ?_)
      refine g_aload_n (i := 0) K hl dX0_back_46 rfl rfl ?_
      refine xg_X0_31 X hF dX0_back_47 (fun t14 hF => ?_)
      have hlZ := hl
      obtain ⟨q15, hq9, ht_q15, hZ⟩ := nnX_i hF
      cases hq9
      have hF := hZ
      clear hZ
      have hl := hlZ
      clear hlZ
      refine x_callV hF ha rfl (fun t h => x_rV X hl (w_J2_clear G _ _  t h) ht_q15 rfl rfl cpx_J2_clear q309 rfl rfl rfl rfl (cat_room rfl) dX0_back_50) (fun σ16 hF ha => ?_)
      refine g_aload_n (i := 0) K hl dX0_back_53 rfl rfl ?_
      refine xg_X0_12 X hF dX0_back_54 (fun t17 hF => ?_)
      have hlZ := hl
      obtain ⟨q18, hq9, ht_q18, hZ⟩ := nnX_i hF
      cases hq9
      have hF := hZ
      clear hZ
      have hl := hlZ
      clear hlZ
      refine x_callP (V := Value.int) hF (fun t h => x_rV X hl (w_X1_left G _ _  t h) ht_q18 rfl rfl cpx_X1_left q1388 rfl rfl rfl rfl (cat_room rfl) dX0_back_57) (fun t19 hF => ?_)
      exact x_iretW X hF ha dX0_back_60
    · refine g_iconst K dX0_back_21 lc_m1 ?_
      exact x_iretW X hF ha dX0_back_22

theorem cpx_X0_about : cpV yX0_about cX0_about 2 (some .int) 1 := ⟨q1497, q1498, q145, q1499, by decide +kernel⟩
set_option maxHeartbeats 4000000 in
set_option maxRecDepth 100000 in
theorem w_X0_about {l : Launch} {D : va_G} {cx ro : Nat → Nat} {A : Nat → Prop} {TL SL : Nat} (G : Nat) (σ0 : XS) (th : Nat) (a0 : Int32) (r : Int32) (hF : X_X0_about G σ0 th a0 = some r) : xMet l D cx ro A TL SL yX0_about cX0_about 2 (some .int) 4 false wx_X0_about [.ref th, .int a0] σ0 (some (.int r)) σ0 := by
  refine x_of (l9 := [(0, some (.ref th)), (1, some (.int a0))]) (by decide) (by exact Nat.le_of_ble_eq_true rfl) (by rfl) ?_
  intro p e s m args below meth c ls X K hnm hl hlm
  unfold X_X0_about at hF
  refine g_iload_n (i := 1) K hl dX0_about_0 rfl rfl ?_
  refine g_tsw (tgt := 184) (lo32 := 0) (hi32 := 13) K hF dX0_about_1 rfl rfl (by decide) (fun hF => ?_) (fun hF => ?_)
  · refine g_iconst K dX0_about_184 lc_m1 ?_
    exact x_iretP X hF agW.rf dX0_about_185
  · obtain ⟨hlo, hhi, hF⟩ := hF
    rcases sw_eq hF with ⟨hv, hF⟩ | ⟨hv0, hF⟩
    · refine g_tin (tgt := 72) K dX0_about_1 hv rfl rfl (by decide) ?_
      refine g_aload_n (i := 0) K hl dX0_about_72 rfl rfl ?_
      refine xg_X0_12 X hF dX0_about_73 (fun t1 hF => ?_)
      refine xg_X0_276 X hF dX0_about_76 (fun t2 hF => ?_)
      exact x_iretP X hF agW.rf dX0_about_79
    rcases sw_eq hF with ⟨hv, hF⟩ | ⟨hv1, hF⟩
    · refine g_tin (tgt := 80) K dX0_about_1 hv rfl rfl (by decide) ?_
      refine g_aload_n (i := 0) K hl dX0_about_80 rfl rfl ?_
      refine xg_X0_12 X hF dX0_about_81 (fun t3 hF => ?_)
      refine xg_X0_279 X hF dX0_about_84 (fun t4 hF => ?_)
      exact x_iretP X hF agW.rf dX0_about_87
    rcases sw_eq hF with ⟨hv, hF⟩ | ⟨hv2, hF⟩
    · refine g_tin (tgt := 88) K dX0_about_1 hv rfl rfl (by decide) ?_
      refine g_aload_n (i := 0) K hl dX0_about_88 rfl rfl ?_
      refine xg_X0_12 X hF dX0_about_89 (fun t5 hF => ?_)
      refine xg_X0_87 X hF dX0_about_92 (fun t6 hF => ?_)
      have hlZ := hl
      obtain ⟨q7, hq9, ht_q7, hZ⟩ := nnX_i hF
      cases hq9
      have hF := hZ
      clear hZ
      have hl := hlZ
      clear hlZ
      refine x_callP (V := Value.int) hF (fun t h => x_rV X hl (w_J2_size _ _  t h) ht_q7 rfl rfl cpx_J2_size q994 rfl rfl rfl rfl (cat_room rfl) dX0_about_95) (fun t8 hF => ?_)
      exact x_iretP X hF agW.rf dX0_about_98
    rcases sw_eq hF with ⟨hv, hF⟩ | ⟨hv3, hF⟩
    · refine g_tin (tgt := 99) K dX0_about_1 hv rfl rfl (by decide) ?_
      refine g_aload_n (i := 0) K hl dX0_about_99 rfl rfl ?_
      refine xg_X0_12 X hF dX0_about_100 (fun t9 hF => ?_)
      have hlZ := hl
      obtain ⟨q10, hq9, ht_q10, hZ⟩ := nnX_i hF
      cases hq9
      have hF := hZ
      clear hZ
      have hl := hlZ
      clear hlZ
      refine x_callP (V := Value.int) hF (fun t h => x_rV X hl (w_X1_left G _ _  t h) ht_q10 rfl rfl cpx_X1_left q1388 rfl rfl rfl rfl (cat_room rfl) dX0_about_103) (fun t11 hF => ?_)
      exact x_iretP X hF agW.rf dX0_about_106
    rcases sw_eq hF with ⟨hv, hF⟩ | ⟨hv4, hF⟩
    · refine g_tin (tgt := 107) K dX0_about_1 hv rfl rfl (by decide) ?_
      refine g_aload_n (i := 0) K hl dX0_about_107 rfl rfl ?_
      refine xg_X0_12 X hF dX0_about_108 (fun t12 hF => ?_)
      refine xg_X0_94 X hF dX0_about_111 (fun t13 hF => ?_)
      have hlZ := hl
      obtain ⟨q14, hq9, ht_q14, hZ⟩ := nnX_i hF
      cases hq9
      have hF := hZ
      clear hZ
      have hl := hlZ
      clear hlZ
      refine x_callP (V := Value.int) hF (fun t h => x_rV X hl (w_J2_size _ _  t h) ht_q14 rfl rfl cpx_J2_size q994 rfl rfl rfl rfl (cat_room rfl) dX0_about_114) (fun t15 hF => ?_)
      exact x_iretP X hF agW.rf dX0_about_117
    rcases sw_eq hF with ⟨hv, hF⟩ | ⟨hv5, hF⟩
    · refine g_tin (tgt := 118) K dX0_about_1 hv rfl rfl (by decide) ?_
      refine g_aload_n (i := 0) K hl dX0_about_118 rfl rfl ?_
      refine xg_X0_12 X hF dX0_about_119 (fun t16 hF => ?_)
      refine xg_X0_97 X hF dX0_about_122 (fun t17 hF => ?_)
      have hlZ := hl
      obtain ⟨q18, hq9, ht_q18, hZ⟩ := nnX_i hF
      cases hq9
      have hF := hZ
      clear hZ
      have hl := hlZ
      clear hlZ
      refine x_callP (V := Value.int) hF (fun t h => x_rV X hl (w_J2_size _ _  t h) ht_q18 rfl rfl cpx_J2_size q994 rfl rfl rfl rfl (cat_room rfl) dX0_about_125) (fun t19 hF => ?_)
      exact x_iretP X hF agW.rf dX0_about_128
    rcases sw_eq hF with ⟨hv, hF⟩ | ⟨hv6, hF⟩
    · refine g_tin (tgt := 129) K dX0_about_1 hv rfl rfl (by decide) ?_
      refine g_aload_n (i := 0) K hl dX0_about_129 rfl rfl ?_
      refine xg_X0_12 X hF dX0_about_130 (fun t20 hF => ?_)
      refine xg_X0_369 X hF dX0_about_133 (fun t21 hF => ?_)
      exact x_iretP X hF agW.rf dX0_about_136
    rcases sw_eq hF with ⟨hv, hF⟩ | ⟨hv7, hF⟩
    · refine g_tin (tgt := 137) K dX0_about_1 hv rfl rfl (by decide) ?_
      refine g_aload_n (i := 0) K hl dX0_about_137 rfl rfl ?_
      refine xg_X0_27 X hF dX0_about_138 (fun t22 hF => ?_)
      have hlZ := hl
      obtain ⟨q23, hq9, ht_q23, hZ⟩ := nnX_i hF
      cases hq9
      have hF := hZ
      clear hZ
      have hl := hlZ
      clear hlZ
      refine x_callP (V := Value.int) hF (fun t h => x_rV X hl (w_J2_size _ _  t h) ht_q23 rfl rfl cpx_J2_size q994 rfl rfl rfl rfl (cat_room rfl) dX0_about_141) (fun t24 hF => ?_)
      exact x_iretP X hF agW.rf dX0_about_144
    rcases sw_eq hF with ⟨hv, hF⟩ | ⟨hv8, hF⟩
    · refine g_tin (tgt := 145) K dX0_about_1 hv rfl rfl (by decide) ?_
      refine g_aload_n (i := 0) K hl dX0_about_145 rfl rfl ?_
      refine xg_X0_31 X hF dX0_about_146 (fun t25 hF => ?_)
      have hlZ := hl
      obtain ⟨q26, hq9, ht_q26, hZ⟩ := nnX_i hF
      cases hq9
      have hF := hZ
      clear hZ
      have hl := hlZ
      clear hlZ
      refine x_callP (V := Value.int) hF (fun t h => x_rV X hl (w_J2_size _ _  t h) ht_q26 rfl rfl cpx_J2_size q994 rfl rfl rfl rfl (cat_room rfl) dX0_about_149) (fun t27 hF => ?_)
      exact x_iretP X hF agW.rf dX0_about_152
    rcases sw_eq hF with ⟨hv, hF⟩ | ⟨hv9, hF⟩
    · refine g_tin (tgt := 153) K dX0_about_1 hv rfl rfl (by decide) ?_
      refine g_aload_n (i := 0) K hl dX0_about_153 rfl rfl ?_
      refine xg_X0_44 X hF dX0_about_154 (fun t28 hF => ?_)
      have hlZ := hl
      obtain ⟨q29, hq9, ht_q29, hZ⟩ := nnX_i hF
      cases hq9
      have hF := hZ
      clear hZ
      have hl := hlZ
      clear hlZ
      refine x_callP (V := Value.int) hF (fun t h => x_rV X hl (w_J2_size _ _  t h) ht_q29 rfl rfl cpx_J2_size q994 rfl rfl rfl rfl (cat_room rfl) dX0_about_157) (fun t30 hF => ?_)
      exact x_iretP X hF agW.rf dX0_about_160
    rcases sw_eq hF with ⟨hv, hF⟩ | ⟨hv10, hF⟩
    · refine g_tin (tgt := 161) K dX0_about_1 hv rfl rfl (by decide) ?_
      refine g_aload_n (i := 0) K hl dX0_about_161 rfl rfl ?_
      refine xg_X0_332 X hF dX0_about_162 (fun t31 hF => ?_)
      exact x_iretP X hF agW.rf dX0_about_165
    rcases sw_eq hF with ⟨hv, hF⟩ | ⟨hv11, hF⟩
    · refine g_tin (tgt := 166) K dX0_about_1 hv rfl rfl (by decide) ?_
      refine g_aload_n (i := 0) K hl dX0_about_166 rfl rfl ?_
      refine xg_X0_114 X hF dX0_about_167 (fun t32 hF => ?_)
      exact x_iretP X hF agW.rf dX0_about_170
    rcases sw_eq hF with ⟨hv, hF⟩ | ⟨hv12, hF⟩
    · refine g_tin (tgt := 171) K dX0_about_1 hv rfl rfl (by decide) ?_
      refine g_aload_n (i := 0) K hl dX0_about_171 rfl rfl ?_
      refine xg_X0_12 X hF dX0_about_172 (fun t33 hF => ?_)
      refine xg_X0_372 X hF dX0_about_175 (fun t34 hF => ?_)
      exact x_iretP X hF agW.rf dX0_about_178
    have hv := sw_last14 hlo hhi hv0 hv1 hv2 hv3 hv4 hv5 hv6 hv7 hv8 hv9 hv10 hv11 hv12
    refine g_tin (tgt := 179) K dX0_about_1 hv rfl rfl (by decide) ?_
    refine g_aload_n (i := 0) K hl dX0_about_179 rfl rfl ?_
    refine xg_X0_62 X hF dX0_about_180 (fun t35 hF => ?_)
    exact x_iretP X hF agW.rf dX0_about_183

theorem cpx_X13_init : cpI yX13_init cX13_init 3 1 := ⟨rfl, q825, q172, q826, by decide +kernel⟩
set_option maxHeartbeats 4000000 in
set_option maxRecDepth 100000 in
theorem w_X13_init {l : Launch} {D : va_G} {cx ro : Nat → Nat} {A : Nat → Prop} {TL SL : Nat}  (σ0 : XS) (th : Nat) (a0 : Int64) (r : XS) (hF : X_X13_init σ0 th a0 = some r) : xMet l D cx ro A TL SL yX13_init cX13_init 3 none 1 false wx_X13_init [.ref th, .long a0] σ0 none r := by
  refine x_of (l9 := [(0, some (.ref th)), (1, some (.long a0))]) (by decide) (by exact Nat.le_of_ble_eq_true rfl) (by rfl) ?_
  intro p e s m args below meth c ls X K hnm hl hlm
  have ha : agW false wx_X13_init σ0 σ0 := agW.rf
  unfold X_X13_init at hF
  refine g_aload_n (i := 0) K hl dX13_init_0 rfl rfl ?_
  refine x_objI X hl q827 rfl dX13_init_1 ?_
  refine g_aload_n (i := 0) K hl dX13_init_4 rfl rfl ?_
  refine g_iconst K dX13_init_5 lc_1 ?_
  refine xp_X13_9 X hF ha rfl dX13_init_6 (fun σ1 hF ha => ?_)
  refine g_aload_n (i := 0) K hl dX13_init_9 rfl rfl ?_
  refine g_iconst K dX13_init_10 lc_m1 ?_
  refine xp_X13_15 X hF ha rfl dX13_init_11 (fun σ2 hF ha => ?_)
  refine g_aload_n (i := 0) K hl dX13_init_14 rfl rfl ?_
  refine g_lload_n (i := 1) K hl dX13_init_15 rfl rfl ?_
  refine xp_X13_18 X hF hnm ha rfl dX13_init_16 (fun σ3 hF ha => ?_)
  exact x_vretV X hF ha dX13_init_19

theorem cpx_X14_init : cpI yX14_init cX14_init 3 1 := ⟨rfl, q910, q173, q911, by decide +kernel⟩
set_option maxHeartbeats 4000000 in
set_option maxRecDepth 100000 in
theorem w_X14_init {l : Launch} {D : va_G} {cx ro : Nat → Nat} {A : Nat → Prop} {TL SL : Nat}  (σ0 : XS) (th : Nat) (a0 : Int64) (r : XS) (hF : X_X14_init TL SL σ0 th a0 = some r) : xMet l D cx ro A TL SL yX14_init cX14_init 3 none 1 true wx_X14_init [.ref th, .long a0] σ0 none r := by
  refine x_of (l9 := [(0, some (.ref th)), (1, some (.long a0))]) (by decide) (by exact Nat.le_of_ble_eq_true rfl) (by rfl) ?_
  intro p e s m args below meth c ls X K hnm hl hlm
  have ha : agW true wx_X14_init σ0 σ0 := agW.rf
  unfold X_X14_init at hF
  refine g_aload_n (i := 0) K hl dX14_init_0 rfl rfl ?_
  refine x_objI X hl q912 rfl dX14_init_1 ?_
  refine g_aload_n (i := 0) K hl dX14_init_4 rfl rfl ?_
  refine g_bipush K dX14_init_5 lb_15 ?_
  refine x_newA0 X hF ha dX14_init_7 (fun q1 σ2 hF ha => ?_)
  refine xp_X14_9 X hF hnm ha rfl dX14_init_9 (fun σ3 hF ha => ?_)
  refine g_aload_n (i := 0) K hl dX14_init_12 rfl rfl ?_
  refine g_lload_n (i := 1) K hl dX14_init_13 rfl rfl ?_
  refine xp_X14_15 X hF hnm ha rfl dX14_init_14 (fun σ4 hF ha => ?_)
  exact x_vretV X hF ha dX14_init_17

theorem cpx_X8_init : cpI yX8_init cX8_init 1 0 := ⟨rfl, q670, q163, q671, by decide +kernel⟩
set_option maxHeartbeats 4000000 in
set_option maxRecDepth 100000 in
theorem w_X8_init {l : Launch} {D : va_G} {cx ro : Nat → Nat} {A : Nat → Prop} {TL SL : Nat}  (σ0 : XS) (th : Nat)  (r : XS) (hF : X_X8_init σ0 th = some r) : xMet l D cx ro A TL SL yX8_init cX8_init 1 none 1 false wx_X8_init [.ref th] σ0 none r := by
  refine x_of (l9 := [(0, some (.ref th))]) (by decide) (by exact Nat.le_of_ble_eq_true rfl) (by rfl) ?_
  intro p e s m args below meth c ls X K hnm hl hlm
  have ha : agW false wx_X8_init σ0 σ0 := agW.rf
  unfold X_X8_init at hF
  refine g_aload_n (i := 0) K hl dX8_init_0 rfl rfl ?_
  refine x_objI X hl q672 rfl dX8_init_1 ?_
  exact x_vretV X hF ha dX8_init_4

theorem cpx_X11_init : cpI yX11_init cX11_init 2 1 := ⟨rfl, q708, q166, q709, by decide +kernel⟩
set_option maxHeartbeats 4000000 in
set_option maxRecDepth 100000 in
theorem w_X11_init {l : Launch} {D : va_G} {cx ro : Nat → Nat} {A : Nat → Prop} {TL SL : Nat}  (σ0 : XS) (th : Nat) (a0 : Int32) (r : XS) (hF : X_X11_init σ0 th a0 = some r) : xMet l D cx ro A TL SL yX11_init cX11_init 2 none 2 false wx_X11_init [.ref th, .int a0] σ0 none r := by
  refine x_of (l9 := [(0, some (.ref th)), (1, some (.int a0))]) (by decide) (by exact Nat.le_of_ble_eq_true rfl) (by rfl) ?_
  intro p e s m args below meth c ls X K hnm hl hlm
  have ha : agW false wx_X11_init σ0 σ0 := agW.rf
  unfold X_X11_init at hF
  refine g_aload_n (i := 0) K hl dX11_init_0 rfl rfl ?_
  have hlZ := hl
  obtain ⟨q1, hq9, hZ⟩ := nnO_i hF
  cases hq9
  have hF := hZ
  clear hZ
  have hl := hlZ
  clear hlZ
  refine x_callV hF ha rfl (fun t h => x_rIN X hl (w_X8_init _ _  t h) cpx_X8_init (List.mem_of_getElem? (i := 57) rfl) rfl rfl rfl rfl (cat_room rfl) dX11_init_1) (fun σ2 hF ha => ?_)
  refine g_aload_n (i := 0) K hl dX11_init_4 rfl rfl ?_
  refine g_iload_n (i := 1) K hl dX11_init_5 rfl rfl ?_
  refine xp_X11_7 X hF hnm ha rfl dX11_init_6 (fun σ3 hF ha => ?_)
  exact x_vretV X hF ha dX11_init_9

theorem cpx_X9_init : cpI yX9_init cX9_init 2 1 := ⟨rfl, q667, q164, q668, by decide +kernel⟩
set_option maxHeartbeats 4000000 in
set_option maxRecDepth 100000 in
theorem w_X9_init {l : Launch} {D : va_G} {cx ro : Nat → Nat} {A : Nat → Prop} {TL SL : Nat}  (σ0 : XS) (th : Nat) (a0 : Option Nat) (r : XS) (hF : X_X9_init σ0 th a0 = some r) : xMet l D cx ro A TL SL yX9_init cX9_init 2 none 2 false wx_X9_init [.ref th, va_rf a0] σ0 none r := by
  refine x_of (l9 := [(0, some (.ref th)), (1, some (va_rf a0))]) (by decide) (by cases a0 <;> exact Nat.le_of_ble_eq_true rfl) (by cases a0 <;> rfl) ?_
  intro p e s m args below meth c ls X K hnm hl hlm
  have ha : agW false wx_X9_init σ0 σ0 := agW.rf
  unfold X_X9_init at hF
  refine g_aload_n (i := 0) K hl dX9_init_0 rfl rfl ?_
  have hlZ := hl
  obtain ⟨q1, hq9, hZ⟩ := nnO_i hF
  cases hq9
  have hF := hZ
  clear hZ
  have hl := hlZ
  clear hlZ
  refine x_callV hF ha rfl (fun t h => x_rIN X hl (w_X8_init _ _  t h) cpx_X8_init (List.mem_of_getElem? (i := 103) rfl) rfl rfl rfl rfl (cat_room rfl) dX9_init_1) (fun σ2 hF ha => ?_)
  refine g_aload_n (i := 0) K hl dX9_init_4 rfl rfl ?_
  refine g_aloadR_n (i := 1) K hl dX9_init_5 rfl rfl ?_
  refine xp_X9_7 X hF hnm ha rfl dX9_init_6 (fun σ3 hF ha => ?_)
  exact x_vretV X hF ha dX9_init_9

theorem cpx_X10_init : cpI yX10_init cX10_init 2 1 := ⟨rfl, q698, q165, q699, by decide +kernel⟩
set_option maxHeartbeats 4000000 in
set_option maxRecDepth 100000 in
theorem w_X10_init {l : Launch} {D : va_G} {cx ro : Nat → Nat} {A : Nat → Prop} {TL SL : Nat}  (σ0 : XS) (th : Nat) (a0 : Int32) (r : XS) (hF : X_X10_init σ0 th a0 = some r) : xMet l D cx ro A TL SL yX10_init cX10_init 2 none 2 false wx_X10_init [.ref th, .int a0] σ0 none r := by
  refine x_of (l9 := [(0, some (.ref th)), (1, some (.int a0))]) (by decide) (by exact Nat.le_of_ble_eq_true rfl) (by rfl) ?_
  intro p e s m args below meth c ls X K hnm hl hlm
  have ha : agW false wx_X10_init σ0 σ0 := agW.rf
  unfold X_X10_init at hF
  refine g_aload_n (i := 0) K hl dX10_init_0 rfl rfl ?_
  have hlZ := hl
  obtain ⟨q1, hq9, hZ⟩ := nnO_i hF
  cases hq9
  have hF := hZ
  clear hZ
  have hl := hlZ
  clear hlZ
  refine x_callV hF ha rfl (fun t h => x_rIN X hl (w_X8_init _ _  t h) cpx_X8_init (List.mem_of_getElem? (i := 55) rfl) rfl rfl rfl rfl (cat_room rfl) dX10_init_1) (fun σ2 hF ha => ?_)
  refine g_aload_n (i := 0) K hl dX10_init_4 rfl rfl ?_
  refine g_iload_n (i := 1) K hl dX10_init_5 rfl rfl ?_
  refine xp_X10_7 X hF hnm ha rfl dX10_init_6 (fun σ3 hF ha => ?_)
  exact x_vretV X hF ha dX10_init_9

theorem cpx_X7_init : cpI yX7_init cX7_init 4 2 := ⟨rfl, q734, q162, q735, by decide +kernel⟩
set_option maxHeartbeats 4000000 in
set_option maxRecDepth 100000 in
theorem w_X7_init {l : Launch} {D : va_G} {cx ro : Nat → Nat} {A : Nat → Prop} {TL SL : Nat}  (σ0 : XS) (th : Nat) (a0 : Int64) (a1 : Option Nat) (r : XS) (hF : X_X7_init σ0 th a0 a1 = some r) : xMet l D cx ro A TL SL yX7_init cX7_init 4 none 1 false wx_X7_init [.ref th, .long a0, va_rf a1] σ0 none r := by
  refine x_of (l9 := [(0, some (.ref th)), (1, some (.long a0)), (3, some (va_rf a1))]) (by decide) (by cases a1 <;> exact Nat.le_of_ble_eq_true rfl) (by cases a1 <;> rfl) ?_
  intro p e s m args below meth c ls X K hnm hl hlm
  have ha : agW false wx_X7_init σ0 σ0 := agW.rf
  unfold X_X7_init at hF
  refine g_aload_n (i := 0) K hl dX7_init_0 rfl rfl ?_
  refine x_objI X hl q736 rfl dX7_init_1 ?_
  refine g_aload_n (i := 0) K hl dX7_init_4 rfl rfl ?_
  refine g_lload_n (i := 1) K hl dX7_init_5 rfl rfl ?_
  refine xp_X7_7 X hF hnm ha rfl dX7_init_6 (fun σ1 hF ha => ?_)
  refine g_aload_n (i := 0) K hl dX7_init_9 rfl rfl ?_
  refine g_aloadR_n (i := 3) K hl dX7_init_10 rfl rfl ?_
  refine xp_X7_13 X hF hnm ha rfl dX7_init_11 (fun σ2 hF ha => ?_)
  exact x_vretV X hF ha dX7_init_14

theorem cpx_X12_init : cpI yX12_init cX12_init 4 3 := ⟨rfl, q718, q167, q719, by decide +kernel⟩
set_option maxHeartbeats 4000000 in
set_option maxRecDepth 100000 in
theorem w_X12_init {l : Launch} {D : va_G} {cx ro : Nat → Nat} {A : Nat → Prop} {TL SL : Nat}  (σ0 : XS) (th : Nat) (a0 : Int32) (a1 : Option Nat) (a2 : Option Nat) (r : XS) (hF : X_X12_init σ0 th a0 a1 a2 = some r) : xMet l D cx ro A TL SL yX12_init cX12_init 4 none 2 false wx_X12_init [.ref th, .int a0, va_rf a1, va_rf a2] σ0 none r := by
  refine x_of (l9 := [(0, some (.ref th)), (1, some (.int a0)), (2, some (va_rf a1)), (3, some (va_rf a2))]) (by decide) (by cases a1 <;> cases a2 <;> exact Nat.le_of_ble_eq_true rfl) (by cases a1 <;> cases a2 <;> rfl) ?_
  intro p e s m args below meth c ls X K hnm hl hlm
  have ha : agW false wx_X12_init σ0 σ0 := agW.rf
  unfold X_X12_init at hF
  refine g_aload_n (i := 0) K hl dX12_init_0 rfl rfl ?_
  have hlZ := hl
  obtain ⟨q1, hq9, hZ⟩ := nnO_i hF
  cases hq9
  have hF := hZ
  clear hZ
  have hl := hlZ
  clear hlZ
  refine x_callV hF ha rfl (fun t h => x_rIN X hl (w_X8_init _ _  t h) cpx_X8_init (List.mem_of_getElem? (i := 58) rfl) rfl rfl rfl rfl (cat_room rfl) dX12_init_1) (fun σ2 hF ha => ?_)
  refine g_aload_n (i := 0) K hl dX12_init_4 rfl rfl ?_
  refine g_iload_n (i := 1) K hl dX12_init_5 rfl rfl ?_
  refine xp_X12_7 X hF hnm ha rfl dX12_init_6 (fun σ3 hF ha => ?_)
  refine g_aload_n (i := 0) K hl dX12_init_9 rfl rfl ?_
  refine g_aloadR_n (i := 2) K hl dX12_init_10 rfl rfl ?_
  refine xp_X12_13 X hF hnm ha rfl dX12_init_11 (fun σ4 hF ha => ?_)
  refine g_aload_n (i := 0) K hl dX12_init_14 rfl rfl ?_
  refine g_aloadR_n (i := 3) K hl dX12_init_15 rfl rfl ?_
  refine xp_X12_17 X hF hnm ha rfl dX12_init_16 (fun σ5 hF ha => ?_)
  exact x_vretV X hF ha dX12_init_19
