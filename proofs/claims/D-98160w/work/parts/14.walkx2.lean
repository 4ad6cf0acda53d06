/-! walks of the component: printed by genx.py -/
theorem cpx_X0_best : cpV yX0_best cX0_best 6 (some .int) 3 := ⟨q1296, q1297, q145, q1298, by decide +kernel⟩
set_option maxHeartbeats 4000000 in
set_option maxRecDepth 100000 in
theorem w_X0_best {l : Launch} {D : va_G} {cx ro : Nat → Nat} {A : Nat → Prop} {TL SL : Nat} (G : Nat) (σ0 : XS) (th : Nat) (a0 : Int32) (a1 : Int32) (a2 : Int32) (r : (Int32 × XS)) (hF : X_X0_best TL SL ro G σ0 th a0 a1 a2 = some r) : xMet l D cx ro A TL SL yX0_best cX0_best 6 (some .int) 207 true wx_X0_best [.ref th, .int a0, .int a1, .int a2] σ0 (some (.int r.1)) r.2 := by
  refine x_of (l9 := [(0, some (.ref th)), (1, some (.int a0)), (2, some (.int a1)), (3, some (.int a2))]) (by decide) (by exact Nat.le_of_ble_eq_true rfl) (by rfl) ?_
  intro p e s m args below meth c ls X K hnm hl hlm
  have ha : agW true wx_X0_best σ0 σ0 := agW.rf
  unfold X_X0_best at hF
  refine g_aload_n (i := 0) K hl dX0_best_0 rfl rfl ?_
  refine g_iload_n (i := 1) K hl dX0_best_1 rfl rfl ?_
  have hlZ := hl
  obtain ⟨q1, hq9, ht_q1, hZ⟩ := nnX_i hF
  cases hq9
  have hF := hZ
  clear hZ
  have hl := hlZ
  clear hlZ
  refine x_callP (V := Value.int) hF (fun t h => x_rV X hl (w_X0_isBobber _ _ _ t h) ht_q1 rfl rfl cpx_X0_isBobber q1016 rfl rfl rfl rfl (cat_room rfl) dX0_best_2) (fun t2 hF => ?_)
  refine g_if_eq (tgt := 27) K hF dX0_best_5 (by decide) (fun hF => ?_) (fun hF => ?_)
  · refine g_iconst K dX0_best_27 lc_m1 ?_
    exact x_iretW X hF ha dX0_best_28
  · refine g_iload_n (i := 2) K hl dX0_best_8 rfl rfl ?_
    refine g_iconst K dX0_best_9 lc_0 ?_
    refine g_bipush K dX0_best_10 lb_8 ?_
    refine x_callP (V := Value.int) hF (fun t h => x_rS X hl (w_X0_isIn _ _ _ _ t h) cpx_X0_isIn q1007 rfl rfl rfl rfl (cat_room rfl) dX0_best_12) (fun t3 hF => ?_)
    refine g_if_eq (tgt := 27) K hF dX0_best_15 (by decide) (fun hF => ?_) (fun hF => ?_)
    · refine g_iconst K dX0_best_27 lc_m1 ?_
      exact x_iretW X hF ha dX0_best_28
    · refine g_iload_n (i := 3) K hl dX0_best_18 rfl rfl ?_
      refine g_iconst K dX0_best_19 lc_0 ?_
      refine g_iconst K dX0_best_20 lc_2 ?_
      refine x_callP (V := Value.int) hF (fun t h => x_rS X hl (w_X0_isIn _ _ _ _ t h) cpx_X0_isIn q1007 rfl rfl rfl rfl (cat_room rfl) dX0_best_21) (fun t4 hF => ?_)
      refine g_if_ne (tgt := 29) K hF dX0_best_24 (by decide) (fun hF => ?_) (fun hF => ?_)
      · refine g_aload_n (i := 0) K hl dX0_best_29 rfl rfl ?_
        refine g_iconst K dX0_best_30 lc_0 ?_
        refine xp_X0_214 X hF ha rfl dX0_best_31 (fun σ5 hF ha => ?_)
        refine g_aload_n (i := 0) K hl dX0_best_34 rfl rfl ?_
        refine g_iconst K dX0_best_35 lc_m1 ?_
        refine xp_X0_246 X hF ha rfl dX0_best_36 (fun σ6 hF ha => ?_)
        refine g_aload_n (i := 0) K hl dX0_best_39 rfl rfl ?_
        refine xg_X0_12 X hF dX0_best_40 (fun t7 hF => ?_)
        have hlZ := hl
        obtain ⟨q8, hq9, ht_q8, hZ⟩ := nnX_i hF
        cases hq9
        have hF := hZ
        clear hZ
        have hl := hlZ
        clear hlZ
        refine x_callW (V := va_rf) hF ha rfl (fun t h => x_rV X hl (w_X1_keep G _ _  t h) ht_q8 rfl rfl cpx_X1_keep q1170 rfl rfl rfl rfl (cat_room rfl) dX0_best_43) (fun t9 σ10 hF ha => ?_)
        refine g_astoreR (i := 4) K hl dX0_best_46 rfl rfl (fun ls hl => ?_)
        refine g_aload_n (i := 0) K hl dX0_best_48 rfl rfl ?_
        refine g_aload_n (i := 0) K hl dX0_best_49 rfl rfl ?_
        refine xg_X0_12 X hF dX0_best_50 (fun t11 hF => ?_)
        refine xg_X0_94 X hF dX0_best_53 (fun t12 hF => ?_)
        refine g_iload_n (i := 1) K hl dX0_best_56 rfl rfl ?_
        have hlZ := hl
        obtain ⟨q13, hq9, ht_q13, hZ⟩ := nnX_i hF
        cases hq9
        have hF := hZ
        clear hZ
        have hl := hlZ
        clear hlZ
        refine x_callP (V := va_rf) hF (fun t h => x_rV X hl (w_J2_get _ _ _ t h) ht_q13 rfl rfl cpx_J2_get q1010 rfl rfl rfl rfl (cat_room rfl) dX0_best_57) (fun t14 hF => ?_)
        refine x_cast X hF rfl q1020 dX0_best_60 (fun hF => ?_)
        refine g_iload_n (i := 2) K hl dX0_best_63 rfl rfl ?_
        refine g_iconst K dX0_best_64 lc_0 ?_
        have hlZ := hl
        obtain ⟨q15, hq9, ht_q15, hZ⟩ := nnX_i hF
        cases hq9
        have hF := hZ
        clear hZ
        have hl := hlZ
        clear hlZ
        refine x_callW (V := Value.int) hF ha rfl (fun t h => x_rV X hl (w_X0_bestOf G 12 _ _ _ _ _ t h) ht_q15 rfl rfl cpx_X0_bestOf q1299 rfl rfl rfl rfl (cat_room rfl) dX0_best_65) (fun t16 σ17 hF ha => ?_)
        refine g_istore (i := 5) K hl dX0_best_68 rfl (lkn_rf rfl) (fun ls hl => ?_)
        refine g_aload_n (i := 0) K hl dX0_best_70 rfl rfl ?_
        refine xg_X0_12 X hF dX0_best_71 (fun t18 hF => ?_)
        refine g_aloadR (i := 4) K hl dX0_best_74 rfl ?_
        have hlZ := hl
        obtain ⟨q19, hq9, ht_q19, hZ⟩ := nnX_i hF
        cases hq9
        have hF := hZ
        clear hZ
        have hl := hlZ
        clear hlZ
        refine x_callV hF ha rfl (fun t h => x_rV X hl (w_X1_bring G _ _ _ t h) ht_q19 rfl rfl cpx_X1_bring q1283 rfl rfl rfl rfl (cat_room rfl) dX0_best_76) (fun σ20 hF ha => ?_)
        refine g_iload (i := 5) K hl dX0_best_79 rfl ?_
        refine g_if_ge (tgt := 87) K hF dX0_best_81 (by decide) (fun hF => ?_) (fun hF => ?_)
        · refine g_iload_n (i := 3) K hl dX0_best_87 rfl rfl ?_
          refine g_if_ne (tgt := 96) K hF dX0_best_88 (by decide) (fun hF => ?_) (fun hF => ?_)
          · refine g_iload_n (i := 3) K hl dX0_best_96 rfl rfl ?_
            refine g_iconst K dX0_best_97 lc_1 ?_
            refine g_icmp_ne (tgt := 112) K hF dX0_best_98 (by decide) (fun hF => ?_) (fun hF => ?_)
            · refine g_aload_n (i := 0) K hl dX0_best_112 rfl rfl ?_
              refine xg_X0_246 X hF dX0_best_113 (fun t21 hF => ?_)
              refine g_bipush K dX0_best_116 lb_m2 ?_
              refine g_icmp_ne (tgt := 125) K hF dX0_best_118 (by decide) (fun hF => ?_) (fun hF => ?_)
              · refine g_iconst K dX0_best_125 lc_0 ?_
                exact x_iretW X hF ha dX0_best_126
              · refine g_iconst K dX0_best_121 lc_1 ?_
                refine g_goto (tgt := 126) K dX0_best_122 (by decide) ?_
                exact x_iretW X hF ha dX0_best_126
            · refine g_iconst K dX0_best_101 lc_m1 ?_
              refine g_aload_n (i := 0) K hl dX0_best_102 rfl rfl ?_
              refine xg_X0_246 X hF dX0_best_103 (fun t22 hF => ?_)
              refine x_mmax X hl q1311 rfl rfl dX0_best_106 ?_
              refine g_goto (tgt := 126) K dX0_best_109 (by decide) ?_
              exact x_iretW X hF ha dX0_best_126
          · refine g_iload (i := 5) K hl dX0_best_91 rfl ?_
            refine g_goto (tgt := 126) K dX0_best_93 (by decide) ?_
            exact x_iretW X hF ha dX0_best_126
        · refine g_bipush K dX0_best_84 lb_m2 ?_
          exact x_iretW X hF ha dX0_best_86
      · refine g_iconst K dX0_best_27 lc_m1 ?_
        exact x_iretW X hF ha dX0_best_28

theorem cpx_X0_matchOf : cpV yX0_matchOf cX0_matchOf 5 (some .int) 2 := ⟨q1326, qs51, q145, q1327, by decide +kernel⟩
set_option maxHeartbeats 4000000 in
set_option maxRecDepth 100000 in
theorem w_X0_matchOf {l : Launch} {D : va_G} {cx ro : Nat → Nat} {A : Nat → Prop} {TL SL : Nat} (G : Nat) (σ0 : XS) (th : Nat) (a0 : Int32) (a1 : Int32) (r : (Int32 × XS)) (hF : X_X0_matchOf ro G σ0 th a0 a1 = some r) : xMet l D cx ro A TL SL yX0_matchOf cX0_matchOf 5 (some .int) 197 false wx_X0_matchOf [.ref th, .int a0, .int a1] σ0 (some (.int r.1)) r.2 := by
  refine x_of (l9 := [(0, some (.ref th)), (1, some (.int a0)), (2, some (.int a1))]) (by decide) (by exact Nat.le_of_ble_eq_true rfl) (by rfl) ?_
  intro p e s m args below meth c ls X K hnm hl hlm
  have L88 : ∀ (k17 : XS → Int32 → Int32 → Int32 → Int32 → Option (Int32 × XS)) (hk17 : (∀ (σ : XS) (x1 : Int32) (x2 : Int32) (x3 : Int32) (x4 : Int32) (ls : Array Slot), k17 σ x1 x2 x3 x4 = some r → agW false wx_X0_matchOf σ0 σ → lq ls 5 [(0, some (.ref th)), (1, some (.int x1)), (2, some (.int x2)), (3, some (.int x3)), (4, some (.int x4))] → ZX p l e 197 TL SL s m args below meth c D cx ro A false wx_X0_matchOf σ0 (some (.int r.1)) r.2 σ (F0 m 17 ls []))) (σ : XS) (x1 : Int32) (x2 : Int32) (x4 : Int32) (s0 : Int32) (s1 : Int32) (ls : Array Slot), X_X0_matchOf_L88 ro G th k17 σ x1 x2 x4 s0 s1 = some r → agW false wx_X0_matchOf σ0 σ → lq ls 5 [(0, some (.ref th)), (1, some (.int x1)), (2, some (.int x2)), (4, some (.int x4))] → ZX p l e 197 TL SL s m args below meth c D cx ro A false wx_X0_matchOf σ0 (some (.int r.1)) r.2 σ (F0 m 88 ls [.int s1, .int s0]) := by
    intro k17 hk17 σ x1 x2 x4 s0 s1 ls hF ha hl
    unfold X_X0_matchOf_L88 at hF
    refine g_isub K dX0_matchOf_88 ?_
    refine g_istore_n (i := 3) K hl dX0_matchOf_89 rfl rfl rfl (fun ls hl => ?_)
    refine g_iinc (i := 4) K hl dX0_matchOf_90 rfl lc_1 rfl rfl (fun ls hl => ?_)
    refine g_goto (tgt := 17) K dX0_matchOf_93 (by decide) ?_
    exact hk17 _ _ _ _ _ ls hF ha (lq_sub hl rfl)
  have L55 : ∀ (k17 : XS → Int32 → Int32 → Int32 → Int32 → Option (Int32 × XS)) (hk17 : (∀ (σ : XS) (x1 : Int32) (x2 : Int32) (x3 : Int32) (x4 : Int32) (ls : Array Slot), k17 σ x1 x2 x3 x4 = some r → agW false wx_X0_matchOf σ0 σ → lq ls 5 [(0, some (.ref th)), (1, some (.int x1)), (2, some (.int x2)), (3, some (.int x3)), (4, some (.int x4))] → ZX p l e 197 TL SL s m args below meth c D cx ro A false wx_X0_matchOf σ0 (some (.int r.1)) r.2 σ (F0 m 17 ls []))) (σ : XS) (x1 : Int32) (x2 : Int32) (x4 : Int32) (s0 : Int32) (s1 : Int32) (ls : Array Slot), X_X0_matchOf_L55 ro G th k17 σ x1 x2 x4 s0 s1 = some r → agW false wx_X0_matchOf σ0 σ → lq ls 5 [(0, some (.ref th)), (1, some (.int x1)), (2, some (.int x2)), (4, some (.int x4))] → ZX p l e 197 TL SL s m args below meth c D cx ro A false wx_X0_matchOf σ0 (some (.int r.1)) r.2 σ (F0 m 55 ls [.int s1, .int s0]) := by
    intro k17 hk17 σ x1 x2 x4 s0 s1 ls hF ha hl
    unfold X_X0_matchOf_L55 at hF
    refine g_iadd K dX0_matchOf_55 ?_
    refine g_istore_n (i := 3) K hl dX0_matchOf_56 rfl rfl rfl (fun ls hl => ?_)
    refine g_iload_n (i := 3) K hl dX0_matchOf_57 rfl rfl ?_
    refine g_aload_n (i := 0) K hl dX0_matchOf_58 rfl rfl ?_
    refine xg_X0_12 X hF dX0_matchOf_59 (fun t1 hF => ?_)
    refine g_iconst K dX0_matchOf_62 lc_1 ?_
    refine g_aload_n (i := 0) K hl dX0_matchOf_63 rfl rfl ?_
    refine xg_X0_12 X hF dX0_matchOf_64 (fun t2 hF => ?_)
    refine xg_X0_97 X hF dX0_matchOf_67 (fun t3 hF => ?_)
    refine g_iload_n (i := 2) K hl dX0_matchOf_70 rfl rfl ?_
    have hlZ := hl
    obtain ⟨q4, hq9, ht_q4, hZ⟩ := nnX_i hF
    cases hq9
    have hF := hZ
    clear hZ
    have hl := hlZ
    clear hlZ
    refine x_callP (V := va_rf) hF (fun t h => x_rV X hl (w_J2_get _ _ _ t h) ht_q4 rfl rfl cpx_J2_get q1010 rfl rfl rfl rfl (cat_room rfl) dX0_matchOf_71) (fun t5 hF => ?_)
    refine x_cast X hF rfl q1142 dX0_matchOf_74 (fun hF => ?_)
    have hlZ := hl
    obtain ⟨q6, hq9, ht_q6, hZ⟩ := nnX_i hF
    cases hq9
    have hF := hZ
    clear hZ
    have hl := hlZ
    clear hlZ
    refine x_callW (V := Value.int) hF ha rfl (fun t h => x_rV X hl (w_X1_turn G _ _ _ _ t h) ht_q6 rfl rfl cpx_X1_turn q1268 rfl rfl rfl rfl (cat_room rfl) dX0_matchOf_77) (fun t7 σ8 hF ha => ?_)
    refine g_if_eq (tgt := 87) K hF dX0_matchOf_80 (by decide) (fun hF => ?_) (fun hF => ?_)
    · refine g_iconst K dX0_matchOf_87 lc_0 ?_
      exact L88 k17 hk17 _ _ _ _ _ _ ls hF ha (lq_sub hl rfl)
    · refine g_iconst K dX0_matchOf_83 lc_1 ?_
      refine g_goto (tgt := 88) K dX0_matchOf_84 (by decide) ?_
      exact L88 k17 hk17 _ _ _ _ _ _ ls hF ha (lq_sub hl rfl)
  have B17 : ∀ (k17 : XS → Int32 → Int32 → Int32 → Int32 → Option (Int32 × XS)) (hk17 : (∀ (σ : XS) (x1 : Int32) (x2 : Int32) (x3 : Int32) (x4 : Int32) (ls : Array Slot), k17 σ x1 x2 x3 x4 = some r → agW false wx_X0_matchOf σ0 σ → lq ls 5 [(0, some (.ref th)), (1, some (.int x1)), (2, some (.int x2)), (3, some (.int x3)), (4, some (.int x4))] → ZX p l e 197 TL SL s m args below meth c D cx ro A false wx_X0_matchOf σ0 (some (.int r.1)) r.2 σ (F0 m 17 ls []))) (σ : XS) (x1 : Int32) (x2 : Int32) (x3 : Int32) (x4 : Int32) (ls : Array Slot), X_X0_matchOf_B17 ro G th k17 σ x1 x2 x3 x4 = some r → agW false wx_X0_matchOf σ0 σ → lq ls 5 [(0, some (.ref th)), (1, some (.int x1)), (2, some (.int x2)), (3, some (.int x3)), (4, some (.int x4))] → ZX p l e 197 TL SL s m args below meth c D cx ro A false wx_X0_matchOf σ0 (some (.int r.1)) r.2 σ (F0 m 17 ls []) := by
    intro k17 hk17 σ x1 x2 x3 x4 ls hF ha hl
    unfold X_X0_matchOf_B17 at hF
    refine g_iload (i := 4) K hl dX0_matchOf_17 rfl ?_
    refine g_bipush K dX0_matchOf_19 lb_10 ?_
    refine g_icmp_ge (tgt := 96) K hF dX0_matchOf_21 (by decide) (fun hF => ?_) (fun hF => ?_)
    · refine g_aload_n (i := 0) K hl dX0_matchOf_96 rfl rfl ?_
      refine xg_X0_12 X hF dX0_matchOf_97 (fun t1 hF => ?_)
      refine g_aload_n (i := 0) K hl dX0_matchOf_100 rfl rfl ?_
      refine xg_X0_34 X hF dX0_matchOf_101 (fun t2 hF => ?_)
      refine g_iconst K dX0_matchOf_104 lc_0 ?_
      have hlZ := hl
      obtain ⟨q3, hq9, ht_q3, hZ⟩ := nnX_i hF
      cases hq9
      have hF := hZ
      clear hZ
      have hl := hlZ
      clear hlZ
      refine x_callV hF ha rfl (fun t h => x_rV X hl (w_X1_bringAt G _ _ _ _ t h) ht_q3 rfl rfl cpx_X1_bringAt q1307 rfl rfl rfl rfl (cat_room rfl) dX0_matchOf_105) (fun σ4 hF ha => ?_)
      refine g_iload_n (i := 3) K hl dX0_matchOf_108 rfl rfl ?_
      exact x_iretW X hF ha dX0_matchOf_109
    · refine g_iload_n (i := 3) K hl dX0_matchOf_24 rfl rfl ?_
      refine g_aload_n (i := 0) K hl dX0_matchOf_25 rfl rfl ?_
      refine xg_X0_12 X hF dX0_matchOf_26 (fun t5 hF => ?_)
      refine g_iconst K dX0_matchOf_29 lc_0 ?_
      refine g_aload_n (i := 0) K hl dX0_matchOf_30 rfl rfl ?_
      refine xg_X0_12 X hF dX0_matchOf_31 (fun t6 hF => ?_)
      refine xg_X0_97 X hF dX0_matchOf_34 (fun t7 hF => ?_)
      refine g_iload_n (i := 1) K hl dX0_matchOf_37 rfl rfl ?_
      have hlZ := hl
      obtain ⟨q8, hq9, ht_q8, hZ⟩ := nnX_i hF
      cases hq9
      have hF := hZ
      clear hZ
      have hl := hlZ
      clear hlZ
      refine x_callP (V := va_rf) hF (fun t h => x_rV X hl (w_J2_get _ _ _ t h) ht_q8 rfl rfl cpx_J2_get q1010 rfl rfl rfl rfl (cat_room rfl) dX0_matchOf_38) (fun t9 hF => ?_)
      refine x_cast X hF rfl q1142 dX0_matchOf_41 (fun hF => ?_)
      have hlZ := hl
      obtain ⟨q10, hq9, ht_q10, hZ⟩ := nnX_i hF
      cases hq9
      have hF := hZ
      clear hZ
      have hl := hlZ
      clear hlZ
      refine x_callW (V := Value.int) hF ha rfl (fun t h => x_rV X hl (w_X1_turn G _ _ _ _ t h) ht_q10 rfl rfl cpx_X1_turn q1268 rfl rfl rfl rfl (cat_room rfl) dX0_matchOf_44) (fun t11 σ12 hF ha => ?_)
      refine g_if_eq (tgt := 54) K hF dX0_matchOf_47 (by decide) (fun hF => ?_) (fun hF => ?_)
      · refine g_iconst K dX0_matchOf_54 lc_0 ?_
        exact L55 k17 hk17 _ _ _ _ _ _ ls hF ha (lq_sub hl rfl)
      · refine g_iconst K dX0_matchOf_50 lc_1 ?_
        refine g_goto (tgt := 55) K dX0_matchOf_51 (by decide) ?_
        exact L55 k17 hk17 _ _ _ _ _ _ ls hF ha (lq_sub hl rfl)
  have L17 : ∀ (n : Nat) (σ : XS) (x1 : Int32) (x2 : Int32) (x3 : Int32) (x4 : Int32) (ls : Array Slot), X_X0_matchOf_L17 ro G th  n σ x1 x2 x3 x4 = some r → agW false wx_X0_matchOf σ0 σ → lq ls 5 [(0, some (.ref th)), (1, some (.int x1)), (2, some (.int x2)), (3, some (.int x3)), (4, some (.int x4))] → ZX p l e 197 TL SL s m args below meth c D cx ro A false wx_X0_matchOf σ0 (some (.int r.1)) r.2 σ (F0 m 17 ls []) := by
    intro  n
    induction n with
    | zero => intro σ x1 x2 x3 x4 ls hF; exact absurd hF (fun h => by cases h)
    | succ n ih => intro σ x1 x2 x3 x4 ls hF ha hl; exact B17  _ ih _ _ _ _ _ ls hF ha hl
  have ha : agW false wx_X0_matchOf σ0 σ0 := agW.rf
  unfold X_X0_matchOf at hF
  refine g_aload_n (i := 0) K hl dX0_matchOf_0 rfl rfl ?_
  refine xg_X0_12 X hF dX0_matchOf_1 (fun t1 hF => ?_)
  refine g_aload_n (i := 0) K hl dX0_matchOf_4 rfl rfl ?_
  refine xg_X0_34 X hF dX0_matchOf_5 (fun t2 hF => ?_)
  refine g_iconst K dX0_matchOf_8 lc_0 ?_
  have hlZ := hl
  obtain ⟨q3, hq9, ht_q3, hZ⟩ := nnX_i hF
  cases hq9
  have hF := hZ
  clear hZ
  have hl := hlZ
  clear hlZ
  refine x_callV hF ha rfl (fun t h => x_rV X hl (w_X1_keepAt G _ _ _ _ t h) ht_q3 rfl rfl cpx_X1_keepAt q1303 rfl rfl rfl rfl (cat_room rfl) dX0_matchOf_9) (fun σ4 hF ha => ?_)
  refine g_iconst K dX0_matchOf_12 lc_0 ?_
  refine g_istore_n (i := 3) K hl dX0_matchOf_13 rfl rfl rfl (fun ls hl => ?_)
  refine g_iconst K dX0_matchOf_14 lc_0 ?_
  refine g_istore (i := 4) K hl dX0_matchOf_15 rfl rfl (fun ls hl => ?_)
  exact L17  G _ _ _ _ _ ls hF ha (lq_sub hl rfl)

theorem cpx_X0_canMatch : cpV yX0_canMatch cX0_canMatch 1 (some .boolean) 0 := ⟨q1322, qs50, q145, q1323, by decide +kernel⟩
set_option maxHeartbeats 4000000 in
set_option maxRecDepth 100000 in
theorem w_X0_canMatch {l : Launch} {D : va_G} {cx ro : Nat → Nat} {A : Nat → Prop} {TL SL : Nat}  (σ0 : XS) (th : Nat)  (r : Int32) (hF : X_X0_canMatch σ0 th = some r) : xMet l D cx ro A TL SL yX0_canMatch cX0_canMatch 1 (some .boolean) 1 false wx_X0_canMatch [.ref th] σ0 (some (.int r)) σ0 := by
  refine x_of (l9 := [(0, some (.ref th))]) (by decide) (by exact Nat.le_of_ble_eq_true rfl) (by rfl) ?_
  intro p e s m args below meth c ls X K hnm hl hlm
  unfold X_X0_canMatch at hF
  refine g_aload_n (i := 0) K hl dX0_canMatch_0 rfl rfl ?_
  refine xg_X0_12 X hF dX0_canMatch_1 (fun t1 hF => ?_)
  refine xg_X0_94 X hF dX0_canMatch_4 (fun t2 hF => ?_)
  have hlZ := hl
  obtain ⟨q3, hq9, ht_q3, hZ⟩ := nnX_i hF
  cases hq9
  have hF := hZ
  clear hZ
  have hl := hlZ
  clear hlZ
  refine x_callP (V := Value.int) hF (fun t h => x_rV X hl (w_J2_size _ _  t h) ht_q3 rfl rfl cpx_J2_size q994 rfl rfl rfl rfl (cat_room rfl) dX0_canMatch_7) (fun t4 hF => ?_)
  refine g_iconst K dX0_canMatch_10 lc_1 ?_
  refine g_icmp_le (tgt := 18) K hF dX0_canMatch_11 (by decide) (fun hF => ?_) (fun hF => ?_)
  · refine g_iconst K dX0_canMatch_18 lc_0 ?_
    exact x_zretP X hF (Or.inl rfl) agW.rf dX0_canMatch_19
  · refine g_iconst K dX0_canMatch_14 lc_1 ?_
    refine g_goto (tgt := 19) K dX0_canMatch_15 (by decide) ?_
    exact x_zretP X hF (Or.inr rfl) agW.rf dX0_canMatch_19

theorem cpx_X0_match : cpV yX0_match cX0_match 3 (some .int) 2 := ⟨q1313, q1314, q145, q1315, by decide +kernel⟩
set_option maxHeartbeats 4000000 in
set_option maxRecDepth 100000 in
theorem w_X0_match {l : Launch} {D : va_G} {cx ro : Nat → Nat} {A : Nat → Prop} {TL SL : Nat} (G : Nat) (σ0 : XS) (th : Nat) (a0 : Int32) (a1 : Int32) (r : (Int32 × XS)) (hF : X_X0_match ro G σ0 th a0 a1 = some r) : xMet l D cx ro A TL SL yX0_match cX0_match 3 (some .int) 198 false wx_X0_match [.ref th, .int a0, .int a1] σ0 (some (.int r.1)) r.2 := by
  refine x_of (l9 := [(0, some (.ref th)), (1, some (.int a0)), (2, some (.int a1))]) (by decide) (by exact Nat.le_of_ble_eq_true rfl) (by rfl) ?_
  intro p e s m args below meth c ls X K hnm hl hlm
  have L32 : ∀ (σ : XS) (ls : Array Slot), X_X0_match_L32 ro G th  σ = some r → agW false wx_X0_match σ0 σ → lq ls 3 [(0, some (.ref th))] → ZX p l e 198 TL SL s m args below meth c D cx ro A false wx_X0_match σ0 (some (.int r.1)) r.2 σ (F0 m 32 ls []) := by
    intro  σ ls hF ha hl
    unfold X_X0_match_L32 at hF
    refine g_ldcw K dX0_match_32 q1328 ?_
    exact x_iretW X hF ha dX0_match_35
  have ha : agW false wx_X0_match σ0 σ0 := agW.rf
  unfold X_X0_match at hF
  refine g_aload_n (i := 0) K hl dX0_match_0 rfl rfl ?_
  refine g_iload_n (i := 1) K hl dX0_match_1 rfl rfl ?_
  have hlZ := hl
  obtain ⟨q1, hq9, ht_q1, hZ⟩ := nnX_i hF
  cases hq9
  have hF := hZ
  clear hZ
  have hl := hlZ
  clear hlZ
  refine x_callP (V := Value.int) hF (fun t h => x_rV X hl (w_X0_isRule _ _ _ t h) ht_q1 rfl rfl cpx_X0_isRule q1316 rfl rfl rfl rfl (cat_room rfl) dX0_match_2) (fun t2 hF => ?_)
  refine g_if_eq (tgt := 32) K hF dX0_match_5 (by decide) (fun hF => ?_) (fun hF => ?_)
  · exact L32  _ ls hF ha (lq_sub hl rfl)
  · refine g_aload_n (i := 0) K hl dX0_match_8 rfl rfl ?_
    refine g_iload_n (i := 2) K hl dX0_match_9 rfl rfl ?_
    have hlZ := hl
    obtain ⟨q3, hq9, ht_q3, hZ⟩ := nnX_i hF
    cases hq9
    have hF := hZ
    clear hZ
    have hl := hlZ
    clear hlZ
    refine x_callP (V := Value.int) hF (fun t h => x_rV X hl (w_X0_isRule _ _ _ t h) ht_q3 rfl rfl cpx_X0_isRule q1316 rfl rfl rfl rfl (cat_room rfl) dX0_match_10) (fun t4 hF => ?_)
    refine g_if_eq (tgt := 32) K hF dX0_match_13 (by decide) (fun hF => ?_) (fun hF => ?_)
    · exact L32  _ ls hF ha (lq_sub hl rfl)
    · refine g_aload_n (i := 0) K hl dX0_match_16 rfl rfl ?_
      have hlZ := hl
      obtain ⟨q5, hq9, ht_q5, hZ⟩ := nnX_i hF
      cases hq9
      have hF := hZ
      clear hZ
      have hl := hlZ
      clear hlZ
      refine x_callP (V := Value.int) hF (fun t h => x_rV X hl (w_X0_canMatch _ _  t h) ht_q5 rfl rfl cpx_X0_canMatch q1320 rfl rfl rfl rfl (cat_room rfl) dX0_match_17) (fun t6 hF => ?_)
      refine g_if_eq (tgt := 32) K hF dX0_match_20 (by decide) (fun hF => ?_) (fun hF => ?_)
      · exact L32  _ ls hF ha (lq_sub hl rfl)
      · refine g_aload_n (i := 0) K hl dX0_match_23 rfl rfl ?_
        refine g_iload_n (i := 1) K hl dX0_match_24 rfl rfl ?_
        refine g_iload_n (i := 2) K hl dX0_match_25 rfl rfl ?_
        have hlZ := hl
        obtain ⟨q7, hq9, ht_q7, hZ⟩ := nnX_i hF
        cases hq9
        have hF := hZ
        clear hZ
        have hl := hlZ
        clear hlZ
        refine x_callW (V := Value.int) hF ha rfl (fun t h => x_rV X hl (w_X0_matchOf G _ _ _ _ t h) ht_q7 rfl rfl cpx_X0_matchOf q1324 rfl rfl rfl rfl (cat_room rfl) dX0_match_26) (fun t8 σ9 hF ha => ?_)
        refine g_goto (tgt := 35) K dX0_match_29 (by decide) ?_
        exact x_iretW X hF ha dX0_match_35

theorem cpx_X0_reply : cpV yX0_reply cX0_reply 4 (some .int) 1 := ⟨q1330, q1331, q145, q1332, by decide +kernel⟩
set_option maxHeartbeats 4000000 in
set_option maxRecDepth 100000 in
theorem w_X0_reply {l : Launch} {D : va_G} {cx ro : Nat → Nat} {A : Nat → Prop} {TL SL : Nat} (G : Nat) (σ0 : XS) (th : Nat) (a0 : Int32) (r : (Int32 × XS)) (hF : X_X0_reply ro G σ0 th a0 = some r) : xMet l D cx ro A TL SL yX0_reply cX0_reply 4 (some .int) 198 false wx_X0_reply [.ref th, .int a0] σ0 (some (.int r.1)) r.2 := by
  refine x_of (l9 := [(0, some (.ref th)), (1, some (.int a0))]) (by decide) (by exact Nat.le_of_ble_eq_true rfl) (by rfl) ?_
  intro p e s m args below meth c ls X K hnm hl hlm
  have B21 : ∀ (k21 : XS → Int32 → Int32 → Int32 → Option (Int32 × XS)) (hk21 : (∀ (σ : XS) (x1 : Int32) (x2 : Int32) (x3 : Int32) (ls : Array Slot), k21 σ x1 x2 x3 = some r → agW false wx_X0_reply σ0 σ → lq ls 4 [(0, some (.ref th)), (1, some (.int x1)), (2, some (.int x2)), (3, some (.int x3))] → ZX p l e 198 TL SL s m args below meth c D cx ro A false wx_X0_reply σ0 (some (.int r.1)) r.2 σ (F0 m 21 ls []))) (σ : XS) (x1 : Int32) (x2 : Int32) (x3 : Int32) (ls : Array Slot), X_X0_reply_B21 ro G th k21 σ x1 x2 x3 = some r → agW false wx_X0_reply σ0 σ → lq ls 4 [(0, some (.ref th)), (1, some (.int x1)), (2, some (.int x2)), (3, some (.int x3))] → ZX p l e 198 TL SL s m args below meth c D cx ro A false wx_X0_reply σ0 (some (.int r.1)) r.2 σ (F0 m 21 ls []) := by
    intro k21 hk21 σ x1 x2 x3 ls hF ha hl
    unfold X_X0_reply_B21 at hF
    refine g_iload_n (i := 3) K hl dX0_reply_21 rfl rfl ?_
    refine g_aload_n (i := 0) K hl dX0_reply_22 rfl rfl ?_
    refine xg_X0_12 X hF dX0_reply_23 (fun t1 hF => ?_)
    refine xg_X0_97 X hF dX0_reply_26 (fun t2 hF => ?_)
    have hlZ := hl
    obtain ⟨q3, hq9, ht_q3, hZ⟩ := nnX_i hF
    cases hq9
    have hF := hZ
    clear hZ
    have hl := hlZ
    clear hlZ
    refine x_callP (V := Value.int) hF (fun t h => x_rV X hl (w_J2_size _ _  t h) ht_q3 rfl rfl cpx_J2_size q994 rfl rfl rfl rfl (cat_room rfl) dX0_reply_29) (fun t4 hF => ?_)
    refine g_icmp_ge (tgt := 58) K hF dX0_reply_32 (by decide) (fun hF => ?_) (fun hF => ?_)
    · refine g_iload_n (i := 2) K hl dX0_reply_58 rfl rfl ?_
      exact x_iretW X hF ha dX0_reply_59
    · refine g_aload_n (i := 0) K hl dX0_reply_35 rfl rfl ?_
      refine g_iload_n (i := 3) K hl dX0_reply_36 rfl rfl ?_
      refine g_iload_n (i := 1) K hl dX0_reply_37 rfl rfl ?_
      have hlZ := hl
      obtain ⟨q5, hq9, ht_q5, hZ⟩ := nnX_i hF
      cases hq9
      have hF := hZ
      clear hZ
      have hl := hlZ
      clear hlZ
      refine x_callW (V := Value.int) hF ha rfl (fun t h => x_rV X hl (w_X0_matchOf G _ _ _ _ t h) ht_q5 rfl rfl cpx_X0_matchOf q1324 rfl rfl rfl rfl (cat_room rfl) dX0_reply_38) (fun t6 σ7 hF ha => ?_)
      refine g_aload_n (i := 0) K hl dX0_reply_41 rfl rfl ?_
      refine g_iload_n (i := 2) K hl dX0_reply_42 rfl rfl ?_
      refine g_iload_n (i := 1) K hl dX0_reply_43 rfl rfl ?_
      have hlZ := hl
      obtain ⟨q8, hq9, ht_q8, hZ⟩ := nnX_i hF
      cases hq9
      have hF := hZ
      clear hZ
      have hl := hlZ
      clear hlZ
      refine x_callW (V := Value.int) hF ha rfl (fun t h => x_rV X hl (w_X0_matchOf G _ _ _ _ t h) ht_q8 rfl rfl cpx_X0_matchOf q1324 rfl rfl rfl rfl (cat_room rfl) dX0_reply_44) (fun t9 σ10 hF ha => ?_)
      refine g_icmp_le (tgt := 52) K hF dX0_reply_47 (by decide) (fun hF => ?_) (fun hF => ?_)
      · refine g_iinc (i := 3) K hl dX0_reply_52 rfl lc_1 rfl rfl (fun ls hl => ?_)
        refine g_goto (tgt := 21) K dX0_reply_55 (by decide) ?_
        exact hk21 _ _ _ _ ls hF ha (lq_sub hl rfl)
      · refine g_iload_n (i := 3) K hl dX0_reply_50 rfl rfl ?_
        refine g_istore_n (i := 2) K hl dX0_reply_51 rfl rfl rfl (fun ls hl => ?_)
        refine g_iinc (i := 3) K hl dX0_reply_52 rfl lc_1 rfl rfl (fun ls hl => ?_)
        refine g_goto (tgt := 21) K dX0_reply_55 (by decide) ?_
        exact hk21 _ _ _ _ ls hF ha (lq_sub hl rfl)
  have L21 : ∀ (n : Nat) (σ : XS) (x1 : Int32) (x2 : Int32) (x3 : Int32) (ls : Array Slot), X_X0_reply_L21 ro G th  n σ x1 x2 x3 = some r → agW false wx_X0_reply σ0 σ → lq ls 4 [(0, some (.ref th)), (1, some (.int x1)), (2, some (.int x2)), (3, some (.int x3))] → ZX p l e 198 TL SL s m args below meth c D cx ro A false wx_X0_reply σ0 (some (.int r.1)) r.2 σ (F0 m 21 ls []) := by
    intro  n
    induction n with
    | zero => intro σ x1 x2 x3 ls hF; exact absurd hF (fun h => by cases h)
    | succ n ih => intro σ x1 x2 x3 ls hF ha hl; exact B21  _ ih _ _ _ _ ls hF ha hl
  have ha : agW false wx_X0_reply σ0 σ0 := agW.rf
  unfold X_X0_reply at hF
  refine g_aload_n (i := 0) K hl dX0_reply_0 rfl rfl ?_
  refine g_iload_n (i := 1) K hl dX0_reply_1 rfl rfl ?_
  have hlZ := hl
  obtain ⟨q1, hq9, ht_q1, hZ⟩ := nnX_i hF
  cases hq9
  have hF := hZ
  clear hZ
  have hl := hlZ
  clear hlZ
  refine x_callP (V := Value.int) hF (fun t h => x_rV X hl (w_X0_isRule _ _ _ t h) ht_q1 rfl rfl cpx_X0_isRule q1316 rfl rfl rfl rfl (cat_room rfl) dX0_reply_2) (fun t2 hF => ?_)
  refine g_if_eq (tgt := 15) K hF dX0_reply_5 (by decide) (fun hF => ?_) (fun hF => ?_)
  · refine g_iconst K dX0_reply_15 lc_m1 ?_
    exact x_iretW X hF ha dX0_reply_16
  · refine g_aload_n (i := 0) K hl dX0_reply_8 rfl rfl ?_
    have hlZ := hl
    obtain ⟨q3, hq9, ht_q3, hZ⟩ := nnX_i hF
    cases hq9
    have hF := hZ
    clear hZ
    have hl := hlZ
    clear hlZ
    refine x_callP (V := Value.int) hF (fun t h => x_rV X hl (w_X0_canMatch _ _  t h) ht_q3 rfl rfl cpx_X0_canMatch q1320 rfl rfl rfl rfl (cat_room rfl) dX0_reply_9) (fun t4 hF => ?_)
    refine g_if_ne (tgt := 17) K hF dX0_reply_12 (by decide) (fun hF => ?_) (fun hF => ?_)
    · refine g_iconst K dX0_reply_17 lc_0 ?_
      refine g_istore_n (i := 2) K hl dX0_reply_18 rfl rfl rfl (fun ls hl => ?_)
      refine g_iconst K dX0_reply_19 lc_1 ?_
      refine g_istore_n (i := 3) K hl dX0_reply_20 rfl rfl rfl (fun ls hl => ?_)
      exact L21  G _ _ _ _ ls hF ha (lq_sub hl rfl)
    · refine g_iconst K dX0_reply_15 lc_m1 ?_
      exact x_iretW X hF ha dX0_reply_16

theorem cpx_X0_lies : cpV yX0_lies cX0_lies 2 (some .int) 1 := ⟨q1334, q1335, q145, q1336, by decide +kernel⟩
set_option maxHeartbeats 4000000 in
set_option maxRecDepth 100000 in
theorem w_X0_lies {l : Launch} {D : va_G} {cx ro : Nat → Nat} {A : Nat → Prop} {TL SL : Nat}  (σ0 : XS) (th : Nat) (a0 : Int32) (r : Int32) (hF : X_X0_lies σ0 th a0 = some r) : xMet l D cx ro A TL SL yX0_lies cX0_lies 2 (some .int) 1 false wx_X0_lies [.ref th, .int a0] σ0 (some (.int r)) σ0 := by
  refine x_of (l9 := [(0, some (.ref th)), (1, some (.int a0))]) (by decide) (by exact Nat.le_of_ble_eq_true rfl) (by rfl) ?_
  intro p e s m args below meth c ls X K hnm hl hlm
  unfold X_X0_lies at hF
  refine g_iload_n (i := 1) K hl dX0_lies_0 rfl rfl ?_
  refine g_iconst K dX0_lies_1 lc_0 ?_
  refine g_aload_n (i := 0) K hl dX0_lies_2 rfl rfl ?_
  refine xg_X0_62 X hF dX0_lies_3 (fun t1 hF => ?_)
  refine g_iconst K dX0_lies_6 lc_1 ?_
  refine g_isub K dX0_lies_7 ?_
  refine x_callP (V := Value.int) hF (fun t h => x_rS X hl (w_X0_isIn _ _ _ _ t h) cpx_X0_isIn q1007 rfl rfl rfl rfl (cat_room rfl) dX0_lies_8) (fun t2 hF => ?_)
  refine g_if_eq (tgt := 23) K hF dX0_lies_11 (by decide) (fun hF => ?_) (fun hF => ?_)
  · refine g_iconst K dX0_lies_23 lc_m1 ?_
    exact x_iretP X hF agW.rf dX0_lies_24
  · refine g_aload_n (i := 0) K hl dX0_lies_14 rfl rfl ?_
    refine xg_X0_38 X hF dX0_lies_15 (fun t3 hF => ?_)
    refine g_iload_n (i := 1) K hl dX0_lies_18 rfl rfl ?_
    refine x_iald X hF dX0_lies_19 (fun t4 hF => ?_)
    refine g_goto (tgt := 24) K dX0_lies_20 (by decide) ?_
    exact x_iretP X hF agW.rf dX0_lies_24

theorem cpx_X0_rests : cpV yX0_rests cX0_rests 6 (some .int) 0 := ⟨q1338, q1339, q145, q1340, by decide +kernel⟩
set_option maxHeartbeats 4000000 in
set_option maxRecDepth 100000 in
theorem w_X0_rests {l : Launch} {D : va_G} {cx ro : Nat → Nat} {A : Nat → Prop} {TL SL : Nat} (G : Nat) (σ0 : XS) (th : Nat)  (r : (Int32 × XS)) (hF : X_X0_rests TL SL ro G σ0 th = some r) : xMet l D cx ro A TL SL yX0_rests cX0_rests 6 (some .int) 198 true wx_X0_rests [.ref th] σ0 (some (.int r.1)) r.2 := by
  refine x_of (l9 := [(0, some (.ref th))]) (by decide) (by exact Nat.le_of_ble_eq_true rfl) (by rfl) ?_
  intro p e s m args below meth c ls X K hnm hl hlm
  have B73 : ∀ (k60 : XS → Int32 → Option Nat → Int32 → Option (Int32 × XS)) (hk60 : (∀ (σ : XS) (x1 : Int32) (x2 : Option Nat) (x3 : Int32) (ls : Array Slot), k60 σ x1 x2 x3 = some r → agW true wx_X0_rests σ0 σ → lq ls 6 [(0, some (.ref th)), (1, some (.int x1)), (2, some (va_rf x2)), (3, some (.int x3))] → ZX p l e 198 TL SL s m args below meth c D cx ro A true wx_X0_rests σ0 (some (.int r.1)) r.2 σ (F0 m 60 ls []))) (k73 : XS → Int32 → Option Nat → Int32 → Int32 → Int32 → Option (Int32 × XS)) (hk73 : (∀ (σ : XS) (x1 : Int32) (x2 : Option Nat) (x3 : Int32) (x4 : Int32) (x5 : Int32) (ls : Array Slot), k73 σ x1 x2 x3 x4 x5 = some r → agW true wx_X0_rests σ0 σ → lq ls 6 [(0, some (.ref th)), (1, some (.int x1)), (2, some (va_rf x2)), (3, some (.int x3)), (4, some (.int x4)), (5, some (.int x5))] → ZX p l e 198 TL SL s m args below meth c D cx ro A true wx_X0_rests σ0 (some (.int r.1)) r.2 σ (F0 m 73 ls []))) (σ : XS) (x1 : Int32) (x2 : Option Nat) (x3 : Int32) (x4 : Int32) (x5 : Int32) (ls : Array Slot), X_X0_rests_B73 TL SL ro G th k60 k73 σ x1 x2 x3 x4 x5 = some r → agW true wx_X0_rests σ0 σ → lq ls 6 [(0, some (.ref th)), (1, some (.int x1)), (2, some (va_rf x2)), (3, some (.int x3)), (4, some (.int x4)), (5, some (.int x5))] → ZX p l e 198 TL SL s m args below meth c D cx ro A true wx_X0_rests σ0 (some (.int r.1)) r.2 σ (F0 m 73 ls []) := by
    intro k60 hk60 k73 hk73 σ x1 x2 x3 x4 x5 ls hF ha hl
    unfold X_X0_rests_B73 at hF
    refine g_iload (i := 5) K hl dX0_rests_73 rfl ?_
    refine g_iload_n (i := 1) K hl dX0_rests_75 rfl rfl ?_
    refine g_icmp_ge (tgt := 129) K hF dX0_rests_76 (by decide) (fun hF => ?_) (fun hF => ?_)
    · refine g_iload (i := 4) K hl dX0_rests_129 rfl ?_
      refine g_if_ne (tgt := 137) K hF dX0_rests_131 (by decide) (fun hF => ?_) (fun hF => ?_)
      · refine g_aload_n (i := 0) K hl dX0_rests_137 rfl rfl ?_
        refine xg_X0_38 X hF dX0_rests_138 (fun t1 hF => ?_)
        refine g_aload_n (i := 0) K hl dX0_rests_141 rfl rfl ?_
        refine xg_X0_62 X hF dX0_rests_142 (fun t2 hF => ?_)
        refine g_bipush K dX0_rests_145 lb_10 ?_
        refine g_iload_n (i := 3) K hl dX0_rests_147 rfl rfl ?_
        refine g_iload_n (i := 1) K hl dX0_rests_148 rfl rfl ?_
        refine g_idivT K hF dX0_rests_149 (fun t3 hF => ?_)
        refine g_imul K dX0_rests_150 ?_
        refine g_iload_n (i := 3) K hl dX0_rests_151 rfl rfl ?_
        refine g_iload_n (i := 1) K hl dX0_rests_152 rfl rfl ?_
        refine g_iremT K hF dX0_rests_153 (fun t4 hF => ?_)
        refine g_iadd K dX0_rests_154 ?_
        refine x_iast X hF ha rfl dX0_rests_155 (fun σ5 hF ha => ?_)
        refine g_aload_n (i := 0) K hl dX0_rests_156 rfl rfl ?_
        refine g_dup K dX0_rests_157 rfl ?_
        refine xg_X0_62 X hF dX0_rests_158 (fun t6 hF => ?_)
        refine g_iconst K dX0_rests_161 lc_1 ?_
        refine g_iadd K dX0_rests_162 ?_
        refine xp_X0_62 X hF ha rfl dX0_rests_163 (fun σ7 hF ha => ?_)
        refine g_iinc (i := 3) K hl dX0_rests_166 rfl lc_1 rfl (lkn_rf rfl) (fun ls hl => ?_)
        refine g_goto (tgt := 60) K dX0_rests_169 (by decide) ?_
        exact hk60 _ _ _ _ ls hF ha (lq_sub hl rfl)
      · refine g_goto (tgt := 166) K dX0_rests_134 (by decide) ?_
        refine g_iinc (i := 3) K hl dX0_rests_166 rfl lc_1 rfl (lkn_rf rfl) (fun ls hl => ?_)
        refine g_goto (tgt := 60) K dX0_rests_169 (by decide) ?_
        exact hk60 _ _ _ _ ls hF ha (lq_sub hl rfl)
    · refine g_iload (i := 4) K hl dX0_rests_79 rfl ?_
      refine g_if_eq (tgt := 120) K hF dX0_rests_81 (by decide) (fun hF => ?_) (fun hF => ?_)
      · refine g_iconst K dX0_rests_120 lc_0 ?_
        refine g_istore (i := 4) K hl dX0_rests_121 rfl rfl (fun ls hl => ?_)
        refine g_iinc (i := 5) K hl dX0_rests_123 rfl lc_1 rfl rfl (fun ls hl => ?_)
        refine g_goto (tgt := 73) K dX0_rests_126 (by decide) ?_
        exact hk73 _ _ _ _ _ _ ls hF ha (lq_sub hl rfl)
      · refine g_aloadR_n (i := 2) K hl dX0_rests_84 rfl rfl ?_
        refine g_iload (i := 5) K hl dX0_rests_85 rfl ?_
        refine g_iload_n (i := 1) K hl dX0_rests_87 rfl rfl ?_
        refine g_imul K dX0_rests_88 ?_
        refine g_iload_n (i := 3) K hl dX0_rests_89 rfl rfl ?_
        refine g_iload_n (i := 1) K hl dX0_rests_90 rfl rfl ?_
        refine g_iremT K hF dX0_rests_91 (fun t8 hF => ?_)
        refine g_iadd K dX0_rests_92 ?_
        refine x_iald X hF dX0_rests_93 (fun t9 hF => ?_)
        refine g_aloadR_n (i := 2) K hl dX0_rests_94 rfl rfl ?_
        refine g_iload_n (i := 3) K hl dX0_rests_95 rfl rfl ?_
        refine x_iald X hF dX0_rests_96 (fun t10 hF => ?_)
        refine g_icmp_gt (tgt := 120) K hF dX0_rests_97 (by decide) (fun hF => ?_) (fun hF => ?_)
        · refine g_iconst K dX0_rests_120 lc_0 ?_
          refine g_istore (i := 4) K hl dX0_rests_121 rfl rfl (fun ls hl => ?_)
          refine g_iinc (i := 5) K hl dX0_rests_123 rfl lc_1 rfl rfl (fun ls hl => ?_)
          refine g_goto (tgt := 73) K dX0_rests_126 (by decide) ?_
          exact hk73 _ _ _ _ _ _ ls hF ha (lq_sub hl rfl)
        · refine g_aloadR_n (i := 2) K hl dX0_rests_100 rfl rfl ?_
          refine g_iload_n (i := 3) K hl dX0_rests_101 rfl rfl ?_
          refine g_iload_n (i := 1) K hl dX0_rests_102 rfl rfl ?_
          refine g_idivT K hF dX0_rests_103 (fun t11 hF => ?_)
          refine g_iload_n (i := 1) K hl dX0_rests_104 rfl rfl ?_
          refine g_imul K dX0_rests_105 ?_
          refine g_iload (i := 5) K hl dX0_rests_106 rfl ?_
          refine g_iadd K dX0_rests_108 ?_
          refine x_iald X hF dX0_rests_109 (fun t12 hF => ?_)
          refine g_aloadR_n (i := 2) K hl dX0_rests_110 rfl rfl ?_
          refine g_iload_n (i := 3) K hl dX0_rests_111 rfl rfl ?_
          refine x_iald X hF dX0_rests_112 (fun t13 hF => ?_)
          refine g_icmp_lt (tgt := 120) K hF dX0_rests_113 (by decide) (fun hF => ?_) (fun hF => ?_)
          · refine g_iconst K dX0_rests_120 lc_0 ?_
            refine g_istore (i := 4) K hl dX0_rests_121 rfl rfl (fun ls hl => ?_)
            refine g_iinc (i := 5) K hl dX0_rests_123 rfl lc_1 rfl rfl (fun ls hl => ?_)
            refine g_goto (tgt := 73) K dX0_rests_126 (by decide) ?_
            exact hk73 _ _ _ _ _ _ ls hF ha (lq_sub hl rfl)
          · refine g_iconst K dX0_rests_116 lc_1 ?_
            refine g_goto (tgt := 121) K dX0_rests_117 (by decide) ?_
            refine g_istore (i := 4) K hl dX0_rests_121 rfl rfl (fun ls hl => ?_)
            refine g_iinc (i := 5) K hl dX0_rests_123 rfl lc_1 rfl rfl (fun ls hl => ?_)
            refine g_goto (tgt := 73) K dX0_rests_126 (by decide) ?_
            exact hk73 _ _ _ _ _ _ ls hF ha (lq_sub hl rfl)
  have L73 : ∀ (k60 : XS → Int32 → Option Nat → Int32 → Option (Int32 × XS)) (hk60 : (∀ (σ : XS) (x1 : Int32) (x2 : Option Nat) (x3 : Int32) (ls : Array Slot), k60 σ x1 x2 x3 = some r → agW true wx_X0_rests σ0 σ → lq ls 6 [(0, some (.ref th)), (1, some (.int x1)), (2, some (va_rf x2)), (3, some (.int x3))] → ZX p l e 198 TL SL s m args below meth c D cx ro A true wx_X0_rests σ0 (some (.int r.1)) r.2 σ (F0 m 60 ls []))) (n : Nat) (σ : XS) (x1 : Int32) (x2 : Option Nat) (x3 : Int32) (x4 : Int32) (x5 : Int32) (ls : Array Slot), X_X0_rests_L73 TL SL ro G th k60 n σ x1 x2 x3 x4 x5 = some r → agW true wx_X0_rests σ0 σ → lq ls 6 [(0, some (.ref th)), (1, some (.int x1)), (2, some (va_rf x2)), (3, some (.int x3)), (4, some (.int x4)), (5, some (.int x5))] → ZX p l e 198 TL SL s m args below meth c D cx ro A true wx_X0_rests σ0 (some (.int r.1)) r.2 σ (F0 m 73 ls []) := by
    intro k60 hk60 n
    induction n with
    | zero => intro σ x1 x2 x3 x4 x5 ls hF; exact absurd hF (fun h => by cases h)
    | succ n ih => intro σ x1 x2 x3 x4 x5 ls hF ha hl; exact B73 k60 hk60 _ ih _ _ _ _ _ _ ls hF ha hl
  have B60 : ∀ (k60 : XS → Int32 → Option Nat → Int32 → Option (Int32 × XS)) (hk60 : (∀ (σ : XS) (x1 : Int32) (x2 : Option Nat) (x3 : Int32) (ls : Array Slot), k60 σ x1 x2 x3 = some r → agW true wx_X0_rests σ0 σ → lq ls 6 [(0, some (.ref th)), (1, some (.int x1)), (2, some (va_rf x2)), (3, some (.int x3))] → ZX p l e 198 TL SL s m args below meth c D cx ro A true wx_X0_rests σ0 (some (.int r.1)) r.2 σ (F0 m 60 ls []))) (σ : XS) (x1 : Int32) (x2 : Option Nat) (x3 : Int32) (ls : Array Slot), X_X0_rests_B60 TL SL ro G th k60 σ x1 x2 x3 = some r → agW true wx_X0_rests σ0 σ → lq ls 6 [(0, some (.ref th)), (1, some (.int x1)), (2, some (va_rf x2)), (3, some (.int x3))] → ZX p l e 198 TL SL s m args below meth c D cx ro A true wx_X0_rests σ0 (some (.int r.1)) r.2 σ (F0 m 60 ls []) := by
    intro k60 hk60 σ x1 x2 x3 ls hF ha hl
    unfold X_X0_rests_B60 at hF
    refine g_iload_n (i := 3) K hl dX0_rests_60 rfl rfl ?_
    refine g_iload_n (i := 1) K hl dX0_rests_61 rfl rfl ?_
    refine g_iload_n (i := 1) K hl dX0_rests_62 rfl rfl ?_
    refine g_imul K dX0_rests_63 ?_
    refine g_icmp_ge (tgt := 172) K hF dX0_rests_64 (by decide) (fun hF => ?_) (fun hF => ?_)
    · refine g_aload_n (i := 0) K hl dX0_rests_172 rfl rfl ?_
      refine xg_X0_62 X hF dX0_rests_173 (fun t1 hF => ?_)
      exact x_iretW X hF ha dX0_rests_176
    · refine g_iconst K dX0_rests_67 lc_1 ?_
      refine g_istore (i := 4) K hl dX0_rests_68 rfl rfl (fun ls hl => ?_)
      refine g_iconst K dX0_rests_70 lc_0 ?_
      refine g_istore (i := 5) K hl dX0_rests_71 rfl rfl (fun ls hl => ?_)
      exact L73 k60 hk60 G _ _ _ _ _ _ ls hF ha (lq_sub hl rfl)
  have L60 : ∀ (n : Nat) (σ : XS) (x1 : Int32) (x2 : Option Nat) (x3 : Int32) (ls : Array Slot), X_X0_rests_L60 TL SL ro G th  n σ x1 x2 x3 = some r → agW true wx_X0_rests σ0 σ → lq ls 6 [(0, some (.ref th)), (1, some (.int x1)), (2, some (va_rf x2)), (3, some (.int x3))] → ZX p l e 198 TL SL s m args below meth c D cx ro A true wx_X0_rests σ0 (some (.int r.1)) r.2 σ (F0 m 60 ls []) := by
    intro  n
    induction n with
    | zero => intro σ x1 x2 x3 ls hF; exact absurd hF (fun h => by cases h)
    | succ n ih => intro σ x1 x2 x3 ls hF ha hl; exact B60  _ ih _ _ _ _ ls hF ha hl
  have B32 : ∀ (k32 : XS → Int32 → Option Nat → Int32 → Option (Int32 × XS)) (hk32 : (∀ (σ : XS) (x1 : Int32) (x2 : Option Nat) (x3 : Int32) (ls : Array Slot), k32 σ x1 x2 x3 = some r → agW true wx_X0_rests σ0 σ → lq ls 6 [(0, some (.ref th)), (1, some (.int x1)), (2, some (va_rf x2)), (3, some (.int x3))] → ZX p l e 198 TL SL s m args below meth c D cx ro A true wx_X0_rests σ0 (some (.int r.1)) r.2 σ (F0 m 32 ls []))) (σ : XS) (x1 : Int32) (x2 : Option Nat) (x3 : Int32) (ls : Array Slot), X_X0_rests_B32 TL SL ro G th k32 σ x1 x2 x3 = some r → agW true wx_X0_rests σ0 σ → lq ls 6 [(0, some (.ref th)), (1, some (.int x1)), (2, some (va_rf x2)), (3, some (.int x3))] → ZX p l e 198 TL SL s m args below meth c D cx ro A true wx_X0_rests σ0 (some (.int r.1)) r.2 σ (F0 m 32 ls []) := by
    intro k32 hk32 σ x1 x2 x3 ls hF ha hl
    unfold X_X0_rests_B32 at hF
    refine g_iload_n (i := 3) K hl dX0_rests_32 rfl rfl ?_
    refine g_iload_n (i := 1) K hl dX0_rests_33 rfl rfl ?_
    refine g_iload_n (i := 1) K hl dX0_rests_34 rfl rfl ?_
    refine g_imul K dX0_rests_35 ?_
    refine g_icmp_ge (tgt := 58) K hF dX0_rests_36 (by decide) (fun hF => ?_) (fun hF => ?_)
    · refine g_iconst K dX0_rests_58 lc_0 ?_
      refine g_istore_n (i := 3) K hl dX0_rests_59 rfl rfl (lkn_rf rfl) (fun ls hl => ?_)
      exact L60  G _ _ _ _ ls hF ha (lq_sub hl rfl)
    · refine g_aloadR_n (i := 2) K hl dX0_rests_39 rfl rfl ?_
      refine g_iload_n (i := 3) K hl dX0_rests_40 rfl rfl ?_
      refine g_aload_n (i := 0) K hl dX0_rests_41 rfl rfl ?_
      refine g_iload_n (i := 3) K hl dX0_rests_42 rfl rfl ?_
      refine g_iload_n (i := 1) K hl dX0_rests_43 rfl rfl ?_
      refine g_idivT K hF dX0_rests_44 (fun t1 hF => ?_)
      refine g_iload_n (i := 3) K hl dX0_rests_45 rfl rfl ?_
      refine g_iload_n (i := 1) K hl dX0_rests_46 rfl rfl ?_
      refine g_iremT K hF dX0_rests_47 (fun t2 hF => ?_)
      have hlZ := hl
      obtain ⟨q3, hq9, ht_q3, hZ⟩ := nnX_i hF
      cases hq9
      have hF := hZ
      clear hZ
      have hl := hlZ
      clear hlZ
      refine x_callW (V := Value.int) hF ha rfl (fun t h => x_rV X hl (w_X0_matchOf G _ _ _ _ t h) ht_q3 rfl rfl cpx_X0_matchOf q1324 rfl rfl rfl rfl (cat_room rfl) dX0_rests_48) (fun t4 σ5 hF ha => ?_)
      refine x_iast X hF ha rfl dX0_rests_51 (fun σ6 hF ha => ?_)
      refine g_iinc (i := 3) K hl dX0_rests_52 rfl lc_1 rfl (lkn_rf rfl) (fun ls hl => ?_)
      refine g_goto (tgt := 32) K dX0_rests_55 (by decide) ?_
      exact hk32 _ _ _ _ ls hF ha (lq_sub hl rfl)
  have L32 : ∀ (n : Nat) (σ : XS) (x1 : Int32) (x2 : Option Nat) (x3 : Int32) (ls : Array Slot), X_X0_rests_L32 TL SL ro G th  n σ x1 x2 x3 = some r → agW true wx_X0_rests σ0 σ → lq ls 6 [(0, some (.ref th)), (1, some (.int x1)), (2, some (va_rf x2)), (3, some (.int x3))] → ZX p l e 198 TL SL s m args below meth c D cx ro A true wx_X0_rests σ0 (some (.int r.1)) r.2 σ (F0 m 32 ls []) := by
    intro  n
    induction n with
    | zero => intro σ x1 x2 x3 ls hF; exact absurd hF (fun h => by cases h)
    | succ n ih => intro σ x1 x2 x3 ls hF ha hl; exact B32  _ ih _ _ _ _ ls hF ha hl
  have ha : agW true wx_X0_rests σ0 σ0 := agW.rf
  unfold X_X0_rests at hF
  refine g_aload_n (i := 0) K hl dX0_rests_0 rfl rfl ?_
  refine g_iconst K dX0_rests_1 lc_0 ?_
  refine xp_X0_62 X hF ha rfl dX0_rests_2 (fun σ1 hF ha => ?_)
  refine g_aload_n (i := 0) K hl dX0_rests_5 rfl rfl ?_
  refine xg_X0_12 X hF dX0_rests_6 (fun t2 hF => ?_)
  refine xg_X0_97 X hF dX0_rests_9 (fun t3 hF => ?_)
  have hlZ := hl
  obtain ⟨q4, hq9, ht_q4, hZ⟩ := nnX_i hF
  cases hq9
  have hF := hZ
  clear hZ
  have hl := hlZ
  clear hlZ
  refine x_callP (V := Value.int) hF (fun t h => x_rV X hl (w_J2_size _ _  t h) ht_q4 rfl rfl cpx_J2_size q994 rfl rfl rfl rfl (cat_room rfl) dX0_rests_12) (fun t5 hF => ?_)
  refine g_istore_n (i := 1) K hl dX0_rests_15 rfl rfl rfl (fun ls hl => ?_)
  refine g_aload_n (i := 0) K hl dX0_rests_16 rfl rfl ?_
  have hlZ := hl
  obtain ⟨q6, hq9, ht_q6, hZ⟩ := nnX_i hF
  cases hq9
  have hF := hZ
  clear hZ
  have hl := hlZ
  clear hlZ
  refine x_callP (V := Value.int) hF (fun t h => x_rV X hl (w_X0_canMatch _ _  t h) ht_q6 rfl rfl cpx_X0_canMatch q1320 rfl rfl rfl rfl (cat_room rfl) dX0_rests_17) (fun t7 hF => ?_)
  refine g_if_ne (tgt := 25) K hF dX0_rests_20 (by decide) (fun hF => ?_) (fun hF => ?_)
  · refine g_bipush K dX0_rests_25 lb_36 ?_
    refine x_newA0 X hF ha dX0_rests_27 (fun q8 σ9 hF ha => ?_)
    refine g_astore_n (i := 2) K hl dX0_rests_29 rfl rfl rfl (fun ls hl => ?_)
    refine g_iconst K dX0_rests_30 lc_0 ?_
    refine g_istore_n (i := 3) K hl dX0_rests_31 rfl rfl rfl (fun ls hl => ?_)
    exact L32  G _ _ _ _ ls hF ha (lq_sub hl rfl)
  · refine g_iconst K dX0_rests_23 lc_0 ?_
    exact x_iretW X hF ha dX0_rests_24

theorem cpx_X0_record : cpV yX0_record cX0_record 4 (some .int) 3 := ⟨q1342, q1343, q145, q1344, by decide +kernel⟩
set_option maxHeartbeats 4000000 in
set_option maxRecDepth 100000 in
theorem w_X0_record {l : Launch} {D : va_G} {cx ro : Nat → Nat} {A : Nat → Prop} {TL SL : Nat}  (σ0 : XS) (th : Nat) (a0 : Int32) (a1 : Int32) (a2 : Int32) (r : Int32) (hF : X_X0_record σ0 th a0 a1 a2 = some r) : xMet l D cx ro A TL SL yX0_record cX0_record 4 (some .int) 3 false wx_X0_record [.ref th, .int a0, .int a1, .int a2] σ0 (some (.int r)) σ0 := by
  refine x_of (l9 := [(0, some (.ref th)), (1, some (.int a0)), (2, some (.int a1)), (3, some (.int a2))]) (by decide) (by exact Nat.le_of_ble_eq_true rfl) (by rfl) ?_
  intro p e s m args below meth c ls X K hnm hl hlm
  unfold X_X0_record at hF
  refine g_aload_n (i := 0) K hl dX0_record_0 rfl rfl ?_
  refine g_iload_n (i := 1) K hl dX0_record_1 rfl rfl ?_
  have hlZ := hl
  obtain ⟨q1, hq9, ht_q1, hZ⟩ := nnX_i hF
  cases hq9
  have hF := hZ
  clear hZ
  have hl := hlZ
  clear hlZ
  refine x_callP (V := Value.int) hF (fun t h => x_rV X hl (w_X0_isBobber _ _ _ t h) ht_q1 rfl rfl cpx_X0_isBobber q1016 rfl rfl rfl rfl (cat_room rfl) dX0_record_2) (fun t2 hF => ?_)
  refine g_if_eq (tgt := 52) K hF dX0_record_5 (by decide) (fun hF => ?_) (fun hF => ?_)
  · refine g_iconst K dX0_record_52 lc_m1 ?_
    exact x_iretP X hF agW.rf dX0_record_53
  · refine g_iload_n (i := 2) K hl dX0_record_8 rfl rfl ?_
    refine g_iconst K dX0_record_9 lc_0 ?_
    refine g_iconst K dX0_record_10 lc_4 ?_
    refine x_callP (V := Value.int) hF (fun t h => x_rS X hl (w_X0_isIn _ _ _ _ t h) cpx_X0_isIn q1007 rfl rfl rfl rfl (cat_room rfl) dX0_record_11) (fun t3 hF => ?_)
    refine g_if_eq (tgt := 52) K hF dX0_record_14 (by decide) (fun hF => ?_) (fun hF => ?_)
    · refine g_iconst K dX0_record_52 lc_m1 ?_
      exact x_iretP X hF agW.rf dX0_record_53
    · refine g_iload_n (i := 3) K hl dX0_record_17 rfl rfl ?_
      refine g_iconst K dX0_record_18 lc_0 ?_
      refine g_iconst K dX0_record_19 lc_2 ?_
      refine x_callP (V := Value.int) hF (fun t h => x_rS X hl (w_X0_isIn _ _ _ _ t h) cpx_X0_isIn q1007 rfl rfl rfl rfl (cat_room rfl) dX0_record_20) (fun t4 hF => ?_)
      refine g_if_eq (tgt := 52) K hF dX0_record_23 (by decide) (fun hF => ?_) (fun hF => ?_)
      · refine g_iconst K dX0_record_52 lc_m1 ?_
        exact x_iretP X hF agW.rf dX0_record_53
      · refine g_aload_n (i := 0) K hl dX0_record_26 rfl rfl ?_
        refine xg_X0_12 X hF dX0_record_27 (fun t5 hF => ?_)
        refine xg_X0_94 X hF dX0_record_30 (fun t6 hF => ?_)
        refine g_iload_n (i := 1) K hl dX0_record_33 rfl rfl ?_
        have hlZ := hl
        obtain ⟨q7, hq9, ht_q7, hZ⟩ := nnX_i hF
        cases hq9
        have hF := hZ
        clear hZ
        have hl := hlZ
        clear hlZ
        refine x_callP (V := va_rf) hF (fun t h => x_rV X hl (w_J2_get _ _ _ t h) ht_q7 rfl rfl cpx_J2_get q1010 rfl rfl rfl rfl (cat_room rfl) dX0_record_34) (fun t8 hF => ?_)
        refine x_cast X hF rfl q1020 dX0_record_37 (fun hF => ?_)
        refine xg_X0_268 X hF dX0_record_40 (fun t9 hF => ?_)
        refine g_iconst K dX0_record_43 lc_3 ?_
        refine g_iload_n (i := 2) K hl dX0_record_44 rfl rfl ?_
        refine g_imul K dX0_record_45 ?_
        refine g_iload_n (i := 3) K hl dX0_record_46 rfl rfl ?_
        refine g_iadd K dX0_record_47 ?_
        refine x_iald X hF dX0_record_48 (fun t10 hF => ?_)
        refine g_goto (tgt := 53) K dX0_record_49 (by decide) ?_
        exact x_iretP X hF agW.rf dX0_record_53

theorem cpx_X0_easier : cpV yX0_easier cX0_easier 6 (some .int) 2 := ⟨q1346, q1347, q145, q1348, by decide +kernel⟩
set_option maxHeartbeats 4000000 in
set_option maxRecDepth 100000 in
theorem w_X0_easier {l : Launch} {D : va_G} {cx ro : Nat → Nat} {A : Nat → Prop} {TL SL : Nat} (G : Nat) (σ0 : XS) (th : Nat) (a0 : Int32) (a1 : Int32) (r : (Int32 × XS)) (hF : X_X0_easier ro G σ0 th a0 a1 = some r) : xMet l D cx ro A TL SL yX0_easier cX0_easier 6 (some .int) 195 false wx_X0_easier [.ref th, .int a0, .int a1] σ0 (some (.int r.1)) r.2 := by
  refine x_of (l9 := [(0, some (.ref th)), (1, some (.int a0)), (2, some (.int a1))]) (by decide) (by exact Nat.le_of_ble_eq_true rfl) (by rfl) ?_
  intro p e s m args below meth c ls X K hnm hl hlm
  have B26 : ∀ (k26 : XS → Int32 → Int32 → Int32 → Int32 → Option (Int32 × XS)) (hk26 : (∀ (σ : XS) (x1 : Int32) (x3 : Int32) (x4 : Int32) (x5 : Int32) (ls : Array Slot), k26 σ x1 x3 x4 x5 = some r → agW false wx_X0_easier σ0 σ → lq ls 6 [(0, some (.ref th)), (1, some (.int x1)), (3, some (.int x3)), (4, some (.int x4)), (5, some (.int x5))] → ZX p l e 195 TL SL s m args below meth c D cx ro A false wx_X0_easier σ0 (some (.int r.1)) r.2 σ (F0 m 26 ls []))) (σ : XS) (x1 : Int32) (x3 : Int32) (x4 : Int32) (x5 : Int32) (ls : Array Slot), X_X0_easier_B26 ro G th k26 σ x1 x3 x4 x5 = some r → agW false wx_X0_easier σ0 σ → lq ls 6 [(0, some (.ref th)), (1, some (.int x1)), (3, some (.int x3)), (4, some (.int x4)), (5, some (.int x5))] → ZX p l e 195 TL SL s m args below meth c D cx ro A false wx_X0_easier σ0 (some (.int r.1)) r.2 σ (F0 m 26 ls []) := by
    intro k26 hk26 σ x1 x3 x4 x5 ls hF ha hl
    unfold X_X0_easier_B26 at hF
    refine g_iload (i := 5) K hl dX0_easier_26 rfl ?_
    refine g_aload_n (i := 0) K hl dX0_easier_28 rfl rfl ?_
    refine xg_X0_12 X hF dX0_easier_29 (fun t1 hF => ?_)
    refine xg_X0_87 X hF dX0_easier_32 (fun t2 hF => ?_)
    have hlZ := hl
    obtain ⟨q3, hq9, ht_q3, hZ⟩ := nnX_i hF
    cases hq9
    have hF := hZ
    clear hZ
    have hl := hlZ
    clear hlZ
    refine x_callP (V := Value.int) hF (fun t h => x_rV X hl (w_J2_size _ _  t h) ht_q3 rfl rfl cpx_J2_size q994 rfl rfl rfl rfl (cat_room rfl) dX0_easier_35) (fun t4 hF => ?_)
    refine g_icmp_ge (tgt := 62) K hF dX0_easier_38 (by decide) (fun hF => ?_) (fun hF => ?_)
    · refine g_iload (i := 4) K hl dX0_easier_62 rfl ?_
      exact x_iretW X hF ha dX0_easier_64
    · refine g_aload_n (i := 0) K hl dX0_easier_41 rfl rfl ?_
      refine g_iload_n (i := 1) K hl dX0_easier_42 rfl rfl ?_
      refine g_iload (i := 5) K hl dX0_easier_43 rfl ?_
      refine g_iconst K dX0_easier_45 lc_0 ?_
      have hlZ := hl
      obtain ⟨q5, hq9, ht_q5, hZ⟩ := nnX_i hF
      cases hq9
      have hF := hZ
      clear hZ
      have hl := hlZ
      clear hlZ
      refine x_callW (V := Value.int) hF ha rfl (fun t h => x_rV X hl (w_X0_odds G _ _ _ _ _ t h) ht_q5 rfl rfl cpx_X0_odds q1349 rfl rfl rfl rfl (cat_room rfl) dX0_easier_46) (fun t6 σ7 hF ha => ?_)
      refine g_iload_n (i := 3) K hl dX0_easier_49 rfl rfl ?_
      refine g_icmp_le (tgt := 56) K hF dX0_easier_50 (by decide) (fun hF => ?_) (fun hF => ?_)
      · refine g_iinc (i := 5) K hl dX0_easier_56 rfl lc_1 rfl rfl (fun ls hl => ?_)
        refine g_goto (tgt := 26) K dX0_easier_59 (by decide) ?_
        exact hk26 _ _ _ _ _ ls hF ha (lq_sub hl rfl)
      · refine g_iinc (i := 4) K hl dX0_easier_53 rfl lc_1 rfl rfl (fun ls hl => ?_)
        refine g_iinc (i := 5) K hl dX0_easier_56 rfl lc_1 rfl rfl (fun ls hl => ?_)
        refine g_goto (tgt := 26) K dX0_easier_59 (by decide) ?_
        exact hk26 _ _ _ _ _ ls hF ha (lq_sub hl rfl)
  have L26 : ∀ (n : Nat) (σ : XS) (x1 : Int32) (x3 : Int32) (x4 : Int32) (x5 : Int32) (ls : Array Slot), X_X0_easier_L26 ro G th  n σ x1 x3 x4 x5 = some r → agW false wx_X0_easier σ0 σ → lq ls 6 [(0, some (.ref th)), (1, some (.int x1)), (3, some (.int x3)), (4, some (.int x4)), (5, some (.int x5))] → ZX p l e 195 TL SL s m args below meth c D cx ro A false wx_X0_easier σ0 (some (.int r.1)) r.2 σ (F0 m 26 ls []) := by
    intro  n
    induction n with
    | zero => intro σ x1 x3 x4 x5 ls hF; exact absurd hF (fun h => by cases h)
    | succ n ih => intro σ x1 x3 x4 x5 ls hF ha hl; exact B26  _ ih _ _ _ _ _ ls hF ha hl
  have ha : agW false wx_X0_easier σ0 σ0 := agW.rf
  unfold X_X0_easier at hF
  refine g_aload_n (i := 0) K hl dX0_easier_0 rfl rfl ?_
  refine g_iload_n (i := 1) K hl dX0_easier_1 rfl rfl ?_
  refine g_iload_n (i := 2) K hl dX0_easier_2 rfl rfl ?_
  refine g_iconst K dX0_easier_3 lc_0 ?_
  have hlZ := hl
  obtain ⟨q1, hq9, ht_q1, hZ⟩ := nnX_i hF
  cases hq9
  have hF := hZ
  clear hZ
  have hl := hlZ
  clear hlZ
  refine x_callP (V := Value.int) hF (fun t h => x_rV X hl (w_X0_isTry G _ _ _ _ _ t h) ht_q1 rfl rfl cpx_X0_isTry q1025 rfl rfl rfl rfl (cat_room rfl) dX0_easier_4) (fun t2 hF => ?_)
  refine g_if_ne (tgt := 12) K hF dX0_easier_7 (by decide) (fun hF => ?_) (fun hF => ?_)
  · refine g_aload_n (i := 0) K hl dX0_easier_12 rfl rfl ?_
    refine g_iload_n (i := 1) K hl dX0_easier_13 rfl rfl ?_
    refine g_iload_n (i := 2) K hl dX0_easier_14 rfl rfl ?_
    refine g_iconst K dX0_easier_15 lc_0 ?_
    have hlZ := hl
    obtain ⟨q3, hq9, ht_q3, hZ⟩ := nnX_i hF
    cases hq9
    have hF := hZ
    clear hZ
    have hl := hlZ
    clear hlZ
    refine x_callW (V := Value.int) hF ha rfl (fun t h => x_rV X hl (w_X0_odds G _ _ _ _ _ t h) ht_q3 rfl rfl cpx_X0_odds q1349 rfl rfl rfl rfl (cat_room rfl) dX0_easier_16) (fun t4 σ5 hF ha => ?_)
    refine g_istore_n (i := 3) K hl dX0_easier_19 rfl rfl rfl (fun ls hl => ?_)
    refine g_iconst K dX0_easier_20 lc_0 ?_
    refine g_istore (i := 4) K hl dX0_easier_21 rfl rfl (fun ls hl => ?_)
    refine g_iconst K dX0_easier_23 lc_0 ?_
    refine g_istore (i := 5) K hl dX0_easier_24 rfl rfl (fun ls hl => ?_)
    exact L26  G _ _ _ _ _ ls hF ha (lq_sub hl rfl)
  · refine g_iconst K dX0_easier_10 lc_m1 ?_
    exact x_iretW X hF ha dX0_easier_11

theorem cpx_X0_gets : cpV yX0_gets cX0_gets 5 (some .int) 2 := ⟨q1357, qs52, q145, q1358, by decide +kernel⟩
set_option maxHeartbeats 4000000 in
set_option maxRecDepth 100000 in
theorem w_X0_gets {l : Launch} {D : va_G} {cx ro : Nat → Nat} {A : Nat → Prop} {TL SL : Nat} (G : Nat) (σ0 : XS) (th : Nat) (a0 : Int32) (a1 : Int32) (r : (Int32 × XS)) (hF : X_X0_gets ro G σ0 th a0 a1 = some r) : xMet l D cx ro A TL SL yX0_gets cX0_gets 5 (some .int) 197 false wx_X0_gets [.ref th, .int a0, .int a1] σ0 (some (.int r.1)) r.2 := by
  refine x_of (l9 := [(0, some (.ref th)), (1, some (.int a0)), (2, some (.int a1))]) (by decide) (by exact Nat.le_of_ble_eq_true rfl) (by rfl) ?_
  intro p e s m args below meth c ls X K hnm hl hlm
  have B5 : ∀ (k5 : XS → Int32 → Int32 → Int32 → Int32 → Option (Int32 × XS)) (hk5 : (∀ (σ : XS) (x1 : Int32) (x2 : Int32) (x3 : Int32) (x4 : Int32) (ls : Array Slot), k5 σ x1 x2 x3 x4 = some r → agW false wx_X0_gets σ0 σ → lq ls 5 [(0, some (.ref th)), (1, some (.int x1)), (2, some (.int x2)), (3, some (.int x3)), (4, some (.int x4))] → ZX p l e 197 TL SL s m args below meth c D cx ro A false wx_X0_gets σ0 (some (.int r.1)) r.2 σ (F0 m 5 ls []))) (σ : XS) (x1 : Int32) (x2 : Int32) (x3 : Int32) (x4 : Int32) (ls : Array Slot), X_X0_gets_B5 ro G th k5 σ x1 x2 x3 x4 = some r → agW false wx_X0_gets σ0 σ → lq ls 5 [(0, some (.ref th)), (1, some (.int x1)), (2, some (.int x2)), (3, some (.int x3)), (4, some (.int x4))] → ZX p l e 197 TL SL s m args below meth c D cx ro A false wx_X0_gets σ0 (some (.int r.1)) r.2 σ (F0 m 5 ls []) := by
    intro k5 hk5 σ x1 x2 x3 x4 ls hF ha hl
    unfold X_X0_gets_B5 at hF
    refine g_iload (i := 4) K hl dX0_gets_5 rfl ?_
    refine g_iload_n (i := 2) K hl dX0_gets_7 rfl rfl ?_
    refine g_icmp_ge (tgt := 41) K hF dX0_gets_8 (by decide) (fun hF => ?_) (fun hF => ?_)
    · refine g_iload_n (i := 3) K hl dX0_gets_41 rfl rfl ?_
      exact x_iretW X hF ha dX0_gets_42
    · refine g_iload_n (i := 3) K hl dX0_gets_11 rfl rfl ?_
      refine g_aload_n (i := 0) K hl dX0_gets_12 rfl rfl ?_
      refine xg_X0_12 X hF dX0_gets_13 (fun t1 hF => ?_)
      refine g_iload_n (i := 1) K hl dX0_gets_16 rfl rfl ?_
      refine g_aload_n (i := 0) K hl dX0_gets_17 rfl rfl ?_
      refine g_iload_n (i := 1) K hl dX0_gets_18 rfl rfl ?_
      have hlZ := hl
      obtain ⟨q2, hq9, ht_q2, hZ⟩ := nnX_i hF
      cases hq9
      have hF := hZ
      clear hZ
      have hl := hlZ
      clear hlZ
      refine x_callP (V := va_rf) hF (fun t h => x_rV X hl (w_X0_ruleOf _ _ _ t h) ht_q2 rfl rfl cpx_X0_ruleOf q1134 rfl rfl rfl rfl (cat_room rfl) dX0_gets_19) (fun t3 hF => ?_)
      have hlZ := hl
      obtain ⟨q4, hq9, ht_q4, hZ⟩ := nnX_i hF
      cases hq9
      have hF := hZ
      clear hZ
      have hl := hlZ
      clear hlZ
      refine x_callW (V := Value.int) hF ha rfl (fun t h => x_rV X hl (w_X1_turn G _ _ _ _ t h) ht_q4 rfl rfl cpx_X1_turn q1268 rfl rfl rfl rfl (cat_room rfl) dX0_gets_22) (fun t5 σ6 hF ha => ?_)
      refine g_if_eq (tgt := 32) K hF dX0_gets_25 (by decide) (fun hF => ?_) (fun hF => ?_)
      · refine g_iconst K dX0_gets_32 lc_0 ?_
        refine g_iadd K dX0_gets_33 ?_
        refine g_istore_n (i := 3) K hl dX0_gets_34 rfl rfl rfl (fun ls hl => ?_)
        refine g_iinc (i := 4) K hl dX0_gets_35 rfl lc_1 rfl rfl (fun ls hl => ?_)
        refine g_goto (tgt := 5) K dX0_gets_38 (by decide) ?_
        exact hk5 _ _ _ _ _ ls hF ha (lq_sub hl rfl)
      · refine g_iconst K dX0_gets_28 lc_1 ?_
        refine g_goto (tgt := 33) K dX0_gets_29 (by decide) ?_
        refine g_iadd K dX0_gets_33 ?_
        refine g_istore_n (i := 3) K hl dX0_gets_34 rfl rfl rfl (fun ls hl => ?_)
        refine g_iinc (i := 4) K hl dX0_gets_35 rfl lc_1 rfl rfl (fun ls hl => ?_)
        refine g_goto (tgt := 5) K dX0_gets_38 (by decide) ?_
        exact hk5 _ _ _ _ _ ls hF ha (lq_sub hl rfl)
  have L5 : ∀ (n : Nat) (σ : XS) (x1 : Int32) (x2 : Int32) (x3 : Int32) (x4 : Int32) (ls : Array Slot), X_X0_gets_L5 ro G th  n σ x1 x2 x3 x4 = some r → agW false wx_X0_gets σ0 σ → lq ls 5 [(0, some (.ref th)), (1, some (.int x1)), (2, some (.int x2)), (3, some (.int x3)), (4, some (.int x4))] → ZX p l e 197 TL SL s m args below meth c D cx ro A false wx_X0_gets σ0 (some (.int r.1)) r.2 σ (F0 m 5 ls []) := by
    intro  n
    induction n with
    | zero => intro σ x1 x2 x3 x4 ls hF; exact absurd hF (fun h => by cases h)
    | succ n ih => intro σ x1 x2 x3 x4 ls hF ha hl; exact B5  _ ih _ _ _ _ _ ls hF ha hl
  have ha : agW false wx_X0_gets σ0 σ0 := agW.rf
  unfold X_X0_gets at hF
  refine g_iconst K dX0_gets_0 lc_0 ?_
  refine g_istore_n (i := 3) K hl dX0_gets_1 rfl rfl rfl (fun ls hl => ?_)
  refine g_iconst K dX0_gets_2 lc_0 ?_
  refine g_istore (i := 4) K hl dX0_gets_3 rfl rfl (fun ls hl => ?_)
  exact L5  G _ _ _ _ _ ls hF ha (lq_sub hl rfl)

theorem cpx_X0_seat : cpV yX0_seat cX0_seat 12 (some .int) 3 := ⟨q1351, q1352, q145, q1353, by decide +kernel⟩
set_option maxHeartbeats 4000000 in
set_option maxRecDepth 100000 in
theorem w_X0_seat {l : Launch} {D : va_G} {cx ro : Nat → Nat} {A : Nat → Prop} {TL SL : Nat} (G : Nat) (σ0 : XS) (th : Nat) (a0 : Int32) (a1 : Int32) (a2 : Int32) (r : (Int32 × XS)) (hF : X_X0_seat TL SL ro G σ0 th a0 a1 a2 = some r) : xMet l D cx ro A TL SL yX0_seat cX0_seat 12 (some .int) 198 true wx_X0_seat [.ref th, .int a0, .int a1, .int a2] σ0 (some (.int r.1)) r.2 := by
  refine x_of (l9 := [(0, some (.ref th)), (1, some (.int a0)), (2, some (.int a1)), (3, some (.int a2))]) (by decide) (by exact Nat.le_of_ble_eq_true rfl) (by rfl) ?_
  intro p e s m args below meth c ls X K hnm hl hlm
  have B77 : ∀ (k77 : XS → Int32 → Int32 → Int32 → Option Nat → Option Nat → Int32 → Int32 → Int32 → Int32 → Int32 → Option (Int32 × XS)) (hk77 : (∀ (σ : XS) (x1 : Int32) (x2 : Int32) (x3 : Int32) (x4 : Option Nat) (x5 : Option Nat) (x6 : Int32) (x7 : Int32) (x8 : Int32) (x9 : Int32) (x10 : Int32) (ls : Array Slot), k77 σ x1 x2 x3 x4 x5 x6 x7 x8 x9 x10 = some r → agW true wx_X0_seat σ0 σ → lq ls 12 [(0, some (.ref th)), (1, some (.int x1)), (2, some (.int x2)), (3, some (.int x3)), (4, some (va_rf x4)), (5, some (va_rf x5)), (6, some (.int x6)), (7, some (.int x7)), (8, some (.int x8)), (9, some (.int x9)), (10, some (.int x10))] → ZX p l e 198 TL SL s m args below meth c D cx ro A true wx_X0_seat σ0 (some (.int r.1)) r.2 σ (F0 m 77 ls []))) (σ : XS) (x1 : Int32) (x2 : Int32) (x3 : Int32) (x4 : Option Nat) (x5 : Option Nat) (x6 : Int32) (x7 : Int32) (x8 : Int32) (x9 : Int32) (x10 : Int32) (ls : Array Slot), X_X0_seat_B77 TL SL ro G th k77 σ x1 x2 x3 x4 x5 x6 x7 x8 x9 x10 = some r → agW true wx_X0_seat σ0 σ → lq ls 12 [(0, some (.ref th)), (1, some (.int x1)), (2, some (.int x2)), (3, some (.int x3)), (4, some (va_rf x4)), (5, some (va_rf x5)), (6, some (.int x6)), (7, some (.int x7)), (8, some (.int x8)), (9, some (.int x9)), (10, some (.int x10))] → ZX p l e 198 TL SL s m args below meth c D cx ro A true wx_X0_seat σ0 (some (.int r.1)) r.2 σ (F0 m 77 ls []) := by
    intro k77 hk77 σ x1 x2 x3 x4 x5 x6 x7 x8 x9 x10 ls hF ha hl
    unfold X_X0_seat_B77 at hF
    refine g_iload (i := 10) K hl dX0_seat_77 rfl ?_
    refine g_aload_n (i := 0) K hl dX0_seat_79 rfl rfl ?_
    refine xg_X0_12 X hF dX0_seat_80 (fun t1 hF => ?_)
    refine xg_X0_276 X hF dX0_seat_83 (fun t2 hF => ?_)
    refine g_aload_n (i := 0) K hl dX0_seat_86 rfl rfl ?_
    refine xg_X0_12 X hF dX0_seat_87 (fun t3 hF => ?_)
    refine xg_X0_279 X hF dX0_seat_90 (fun t4 hF => ?_)
    refine g_imul K dX0_seat_93 ?_
    refine g_icmp_ge (tgt := 191) K hF dX0_seat_94 (by decide) (fun hF => ?_) (fun hF => ?_)
    · refine g_aloadR (i := 4) K hl dX0_seat_191 rfl ?_
      refine g_iload (i := 6) K hl dX0_seat_193 rfl ?_
      refine xp_X0_274 X hF ha rfl dX0_seat_195 (fun σ5 hF ha => ?_)
      refine g_aloadR (i := 4) K hl dX0_seat_198 rfl ?_
      refine g_iload (i := 7) K hl dX0_seat_200 rfl ?_
      refine xp_X0_275 X hF ha rfl dX0_seat_202 (fun σ6 hF ha => ?_)
      refine g_iload_n (i := 3) K hl dX0_seat_205 rfl rfl ?_
      refine g_if_ne (tgt := 222) K hF dX0_seat_206 (by decide) (fun hF => ?_) (fun hF => ?_)
      · refine g_iload_n (i := 3) K hl dX0_seat_222 rfl rfl ?_
        refine g_iconst K dX0_seat_223 lc_1 ?_
        refine g_icmp_ne (tgt := 240) K hF dX0_seat_224 (by decide) (fun hF => ?_) (fun hF => ?_)
        · refine g_iload (i := 9) K hl dX0_seat_240 rfl ?_
          exact x_iretW X hF ha dX0_seat_242
        · refine g_iload (i := 8) K hl dX0_seat_227 rfl ?_
          refine g_aload_n (i := 0) K hl dX0_seat_229 rfl rfl ?_
          refine xg_X0_12 X hF dX0_seat_230 (fun t7 hF => ?_)
          refine xg_X0_276 X hF dX0_seat_233 (fun t8 hF => ?_)
          refine g_idivT K hF dX0_seat_236 (fun t9 hF => ?_)
          refine g_goto (tgt := 242) K dX0_seat_237 (by decide) ?_
          exact x_iretW X hF ha dX0_seat_242
      · refine g_iload (i := 8) K hl dX0_seat_209 rfl ?_
        refine g_aload_n (i := 0) K hl dX0_seat_211 rfl rfl ?_
        refine xg_X0_12 X hF dX0_seat_212 (fun t10 hF => ?_)
        refine xg_X0_276 X hF dX0_seat_215 (fun t11 hF => ?_)
        refine g_iremT K hF dX0_seat_218 (fun t12 hF => ?_)
        refine g_goto (tgt := 242) K dX0_seat_219 (by decide) ?_
        exact x_iretW X hF ha dX0_seat_242
    · refine g_aloadR (i := 4) K hl dX0_seat_97 rfl ?_
      refine g_iload (i := 10) K hl dX0_seat_99 rfl ?_
      refine g_aload_n (i := 0) K hl dX0_seat_101 rfl rfl ?_
      refine xg_X0_12 X hF dX0_seat_102 (fun t13 hF => ?_)
      refine xg_X0_276 X hF dX0_seat_105 (fun t14 hF => ?_)
      refine g_iremT K hF dX0_seat_108 (fun t15 hF => ?_)
      refine xp_X0_274 X hF ha rfl dX0_seat_109 (fun σ16 hF ha => ?_)
      refine g_aloadR (i := 4) K hl dX0_seat_112 rfl ?_
      refine g_iload (i := 10) K hl dX0_seat_114 rfl ?_
      refine g_aload_n (i := 0) K hl dX0_seat_116 rfl rfl ?_
      refine xg_X0_12 X hF dX0_seat_117 (fun t17 hF => ?_)
      refine xg_X0_276 X hF dX0_seat_120 (fun t18 hF => ?_)
      refine g_idivT K hF dX0_seat_123 (fun t19 hF => ?_)
      refine xp_X0_275 X hF ha rfl dX0_seat_124 (fun σ20 hF ha => ?_)
      refine g_aload_n (i := 0) K hl dX0_seat_127 rfl rfl ?_
      refine xg_X0_12 X hF dX0_seat_128 (fun t21 hF => ?_)
      refine g_aloadR (i := 4) K hl dX0_seat_131 rfl ?_
      refine xg_X0_274 X hF dX0_seat_133 (fun t22 hF => ?_)
      refine g_aloadR (i := 4) K hl dX0_seat_136 rfl ?_
      refine xg_X0_275 X hF dX0_seat_138 (fun t23 hF => ?_)
      have hlZ := hl
      obtain ⟨q24, hq9, ht_q24, hZ⟩ := nnX_i hF
      cases hq9
      have hF := hZ
      clear hZ
      have hl := hlZ
      clear hlZ
      refine x_callP (V := Value.int) hF (fun t h => x_rV X hl (w_X1_isRim _ _ _ _ t h) ht_q24 rfl rfl cpx_X1_isRim q1354 rfl rfl rfl rfl (cat_room rfl) dX0_seat_141) (fun t25 hF => ?_)
      refine g_if_ne (tgt := 150) K hF dX0_seat_144 (by decide) (fun hF => ?_) (fun hF => ?_)
      · refine g_aload_n (i := 0) K hl dX0_seat_150 rfl rfl ?_
        refine g_iload_n (i := 1) K hl dX0_seat_151 rfl rfl ?_
        refine g_iload_n (i := 2) K hl dX0_seat_152 rfl rfl ?_
        have hlZ := hl
        obtain ⟨q26, hq9, ht_q26, hZ⟩ := nnX_i hF
        cases hq9
        have hF := hZ
        clear hZ
        have hl := hlZ
        clear hlZ
        refine x_callW (V := Value.int) hF ha rfl (fun t h => x_rV X hl (w_X0_gets G _ _ _ _ t h) ht_q26 rfl rfl cpx_X0_gets q1355 rfl rfl rfl rfl (cat_room rfl) dX0_seat_153) (fun t27 σ28 hF ha => ?_)
        refine g_istore (i := 11) K hl dX0_seat_156 rfl rfl (fun ls hl => ?_)
        refine g_aload_n (i := 0) K hl dX0_seat_158 rfl rfl ?_
        refine xg_X0_12 X hF dX0_seat_159 (fun t29 hF => ?_)
        refine g_aloadR (i := 5) K hl dX0_seat_162 rfl ?_
        have hlZ := hl
        obtain ⟨q30, hq9, ht_q30, hZ⟩ := nnX_i hF
        cases hq9
        have hF := hZ
        clear hZ
        have hl := hlZ
        clear hlZ
        refine x_callV hF ha rfl (fun t h => x_rV X hl (w_X1_bring G _ _ _ t h) ht_q30 rfl rfl cpx_X1_bring q1283 rfl rfl rfl rfl (cat_room rfl) dX0_seat_164) (fun σ31 hF ha => ?_)
        refine g_iload (i := 11) K hl dX0_seat_167 rfl ?_
        refine g_iload (i := 9) K hl dX0_seat_169 rfl ?_
        refine g_icmp_gt (tgt := 177) K hF dX0_seat_171 (by decide) (fun hF => ?_) (fun hF => ?_)
        · refine g_iload (i := 11) K hl dX0_seat_177 rfl ?_
          refine g_istore (i := 9) K hl dX0_seat_179 rfl rfl (fun ls hl => ?_)
          refine g_iload (i := 10) K hl dX0_seat_181 rfl ?_
          refine g_istore (i := 8) K hl dX0_seat_183 rfl rfl (fun ls hl => ?_)
          refine g_iinc (i := 10) K hl dX0_seat_185 rfl lc_1 rfl rfl (fun ls hl => ?_)
          refine g_goto (tgt := 77) K dX0_seat_188 (by decide) ?_
          exact hk77 _ _ _ _ _ _ _ _ _ _ _ ls hF ha (lq_sub hl rfl)
        · refine g_goto (tgt := 185) K dX0_seat_174 (by decide) ?_
          refine g_iinc (i := 10) K hl dX0_seat_185 rfl lc_1 rfl rfl (fun ls hl => ?_)
          refine g_goto (tgt := 77) K dX0_seat_188 (by decide) ?_
          exact hk77 _ _ _ _ _ _ _ _ _ _ _ ls hF ha (lq_sub hl rfl)
      · refine g_goto (tgt := 185) K dX0_seat_147 (by decide) ?_
        refine g_iinc (i := 10) K hl dX0_seat_185 rfl lc_1 rfl rfl (fun ls hl => ?_)
        refine g_goto (tgt := 77) K dX0_seat_188 (by decide) ?_
        exact hk77 _ _ _ _ _ _ _ _ _ _ _ ls hF ha (lq_sub hl rfl)
  have L77 : ∀ (n : Nat) (σ : XS) (x1 : Int32) (x2 : Int32) (x3 : Int32) (x4 : Option Nat) (x5 : Option Nat) (x6 : Int32) (x7 : Int32) (x8 : Int32) (x9 : Int32) (x10 : Int32) (ls : Array Slot), X_X0_seat_L77 TL SL ro G th  n σ x1 x2 x3 x4 x5 x6 x7 x8 x9 x10 = some r → agW true wx_X0_seat σ0 σ → lq ls 12 [(0, some (.ref th)), (1, some (.int x1)), (2, some (.int x2)), (3, some (.int x3)), (4, some (va_rf x4)), (5, some (va_rf x5)), (6, some (.int x6)), (7, some (.int x7)), (8, some (.int x8)), (9, some (.int x9)), (10, some (.int x10))] → ZX p l e 198 TL SL s m args below meth c D cx ro A true wx_X0_seat σ0 (some (.int r.1)) r.2 σ (F0 m 77 ls []) := by
    intro  n
    induction n with
    | zero => intro σ x1 x2 x3 x4 x5 x6 x7 x8 x9 x10 ls hF; exact absurd hF (fun h => by cases h)
    | succ n ih => intro σ x1 x2 x3 x4 x5 x6 x7 x8 x9 x10 ls hF ha hl; exact B77  _ ih _ _ _ _ _ _ _ _ _ _ _ ls hF ha hl
  have ha : agW true wx_X0_seat σ0 σ0 := agW.rf
  unfold X_X0_seat at hF
  refine g_aload_n (i := 0) K hl dX0_seat_0 rfl rfl ?_
  refine g_iload_n (i := 1) K hl dX0_seat_1 rfl rfl ?_
  have hlZ := hl
  obtain ⟨q1, hq9, ht_q1, hZ⟩ := nnX_i hF
  cases hq9
  have hF := hZ
  clear hZ
  have hl := hlZ
  clear hlZ
  refine x_callP (V := Value.int) hF (fun t h => x_rV X hl (w_X0_isBobber _ _ _ t h) ht_q1 rfl rfl cpx_X0_isBobber q1016 rfl rfl rfl rfl (cat_room rfl) dX0_seat_2) (fun t2 hF => ?_)
  refine g_if_eq (tgt := 27) K hF dX0_seat_5 (by decide) (fun hF => ?_) (fun hF => ?_)
  · refine g_iconst K dX0_seat_27 lc_m1 ?_
    exact x_iretW X hF ha dX0_seat_28
  · refine g_iload_n (i := 2) K hl dX0_seat_8 rfl rfl ?_
    refine g_iconst K dX0_seat_9 lc_1 ?_
    refine g_bipush K dX0_seat_10 lb_10 ?_
    refine x_callP (V := Value.int) hF (fun t h => x_rS X hl (w_X0_isIn _ _ _ _ t h) cpx_X0_isIn q1007 rfl rfl rfl rfl (cat_room rfl) dX0_seat_12) (fun t3 hF => ?_)
    refine g_if_eq (tgt := 27) K hF dX0_seat_15 (by decide) (fun hF => ?_) (fun hF => ?_)
    · refine g_iconst K dX0_seat_27 lc_m1 ?_
      exact x_iretW X hF ha dX0_seat_28
    · refine g_iload_n (i := 3) K hl dX0_seat_18 rfl rfl ?_
      refine g_iconst K dX0_seat_19 lc_0 ?_
      refine g_iconst K dX0_seat_20 lc_2 ?_
      refine x_callP (V := Value.int) hF (fun t h => x_rS X hl (w_X0_isIn _ _ _ _ t h) cpx_X0_isIn q1007 rfl rfl rfl rfl (cat_room rfl) dX0_seat_21) (fun t4 hF => ?_)
      refine g_if_ne (tgt := 29) K hF dX0_seat_24 (by decide) (fun hF => ?_) (fun hF => ?_)
      · refine g_aload_n (i := 0) K hl dX0_seat_29 rfl rfl ?_
        refine xg_X0_12 X hF dX0_seat_30 (fun t5 hF => ?_)
        refine xg_X0_94 X hF dX0_seat_33 (fun t6 hF => ?_)
        refine g_iload_n (i := 1) K hl dX0_seat_36 rfl rfl ?_
        have hlZ := hl
        obtain ⟨q7, hq9, ht_q7, hZ⟩ := nnX_i hF
        cases hq9
        have hF := hZ
        clear hZ
        have hl := hlZ
        clear hlZ
        refine x_callP (V := va_rf) hF (fun t h => x_rV X hl (w_J2_get _ _ _ t h) ht_q7 rfl rfl cpx_J2_get q1010 rfl rfl rfl rfl (cat_room rfl) dX0_seat_37) (fun t8 hF => ?_)
        refine x_cast X hF rfl q1020 dX0_seat_40 (fun hF => ?_)
        refine g_astoreR (i := 4) K hl dX0_seat_43 rfl rfl (fun ls hl => ?_)
        refine g_aload_n (i := 0) K hl dX0_seat_45 rfl rfl ?_
        refine xg_X0_12 X hF dX0_seat_46 (fun t9 hF => ?_)
        have hlZ := hl
        obtain ⟨q10, hq9, ht_q10, hZ⟩ := nnX_i hF
        cases hq9
        have hF := hZ
        clear hZ
        have hl := hlZ
        clear hlZ
        refine x_callW (V := va_rf) hF ha rfl (fun t h => x_rV X hl (w_X1_keep G _ _  t h) ht_q10 rfl rfl cpx_X1_keep q1170 rfl rfl rfl rfl (cat_room rfl) dX0_seat_49) (fun t11 σ12 hF ha => ?_)
        refine g_astoreR (i := 5) K hl dX0_seat_52 rfl (lkn_rf rfl) (fun ls hl => ?_)
        refine g_aloadR (i := 4) K hl dX0_seat_54 rfl ?_
        refine xg_X0_274 X hF dX0_seat_56 (fun t13 hF => ?_)
        refine g_istore (i := 6) K hl dX0_seat_59 rfl (lkn_rf rfl) (fun ls hl => ?_)
        refine g_aloadR (i := 4) K hl dX0_seat_61 rfl ?_
        refine xg_X0_275 X hF dX0_seat_63 (fun t14 hF => ?_)
        refine g_istore (i := 7) K hl dX0_seat_66 rfl rfl (fun ls hl => ?_)
        refine g_iconst K dX0_seat_68 lc_m1 ?_
        refine g_istore (i := 8) K hl dX0_seat_69 rfl rfl (fun ls hl => ?_)
        refine g_iconst K dX0_seat_71 lc_m1 ?_
        refine g_istore (i := 9) K hl dX0_seat_72 rfl rfl (fun ls hl => ?_)
        refine g_iconst K dX0_seat_74 lc_0 ?_
        refine g_istore (i := 10) K hl dX0_seat_75 rfl rfl (fun ls hl => ?_)
        exact L77  G _ _ _ _ _ _ _ _ _ _ _ ls hF ha (lq_sub hl rfl)
      · refine g_iconst K dX0_seat_27 lc_m1 ?_
        exact x_iretW X hF ha dX0_seat_28

theorem cpx_X0_orders : cpV yX0_orders cX0_orders 8 (some .int) 4 := ⟨q1365, qs53, q145, q1366, by decide +kernel⟩
set_option maxHeartbeats 4000000 in
set_option maxRecDepth 100000 in
theorem w_X0_orders_F {l : Launch} {D : va_G} {cx ro : Nat → Nat} {A : Nat → Prop} {TL SL : Nat} (G : Nat) (R_X0_orders : XS → Nat → Int32 → Int32 → Int32 → Int32 → Option (Int32 × XS)) (dR : Nat) (hR_X0_orders : ∀ (σ : XS) (th : Nat) (a0 : Int32) (a1 : Int32) (a2 : Int32) (a3 : Int32) (r : (Int32 × XS)), R_X0_orders σ th a0 a1 a2 a3 = some r → xMet l D cx ro A TL SL yX0_orders cX0_orders 8 (some .int) (197 + dR - 1) false wx_X0_orders [.ref th, .int a0, .int a1, .int a2, .int a3] σ (some (.int r.1)) r.2) (σ0 : XS) (th : Nat) (a0 : Int32) (a1 : Int32) (a2 : Int32) (a3 : Int32) (r : (Int32 × XS)) (hF : X_X0_orders_F ro G R_X0_orders σ0 th a0 a1 a2 a3 = some r) : xMet l D cx ro A TL SL yX0_orders cX0_orders 8 (some .int) (197 + dR) false wx_X0_orders [.ref th, .int a0, .int a1, .int a2, .int a3] σ0 (some (.int r.1)) r.2 := by
  refine x_of (l9 := [(0, some (.ref th)), (1, some (.int a0)), (2, some (.int a1)), (3, some (.int a2)), (4, some (.int a3))]) (by decide) (by exact Nat.le_of_ble_eq_true rfl) (by rfl) ?_
  intro p e s m args below meth c ls X K hnm hl hlm
  have B143 : ∀ (k143 : XS → Int32 → Int32 → Int32 → Int32 → Int32 → Option (Int32 × XS)) (hk143 : (∀ (σ : XS) (x1 : Int32) (x2 : Int32) (x3 : Int32) (x5 : Int32) (x6 : Int32) (ls : Array Slot), k143 σ x1 x2 x3 x5 x6 = some r → agW false wx_X0_orders σ0 σ → lq ls 8 [(0, some (.ref th)), (1, some (.int x1)), (2, some (.int x2)), (3, some (.int x3)), (5, some (.int x5)), (6, some (.int x6))] → ZX p l e (197 + dR) TL SL s m args below meth c D cx ro A false wx_X0_orders σ0 (some (.int r.1)) r.2 σ (F0 m 143 ls []))) (σ : XS) (x1 : Int32) (x2 : Int32) (x3 : Int32) (x5 : Int32) (x6 : Int32) (ls : Array Slot), X_X0_orders_B143 ro G R_X0_orders th k143 σ x1 x2 x3 x5 x6 = some r → agW false wx_X0_orders σ0 σ → lq ls 8 [(0, some (.ref th)), (1, some (.int x1)), (2, some (.int x2)), (3, some (.int x3)), (5, some (.int x5)), (6, some (.int x6))] → ZX p l e (197 + dR) TL SL s m args below meth c D cx ro A false wx_X0_orders σ0 (some (.int r.1)) r.2 σ (F0 m 143 ls []) := by
    intro k143 hk143 σ x1 x2 x3 x5 x6 ls hF ha hl
    unfold X_X0_orders_B143 at hF
    refine g_iload (i := 6) K hl dX0_orders_143 rfl ?_
    refine g_aload_n (i := 0) K hl dX0_orders_145 rfl rfl ?_
    refine xg_X0_12 X hF dX0_orders_146 (fun t1 hF => ?_)
    refine xg_X0_94 X hF dX0_orders_149 (fun t2 hF => ?_)
    have hlZ := hl
    obtain ⟨q3, hq9, ht_q3, hZ⟩ := nnX_i hF
    cases hq9
    have hF := hZ
    clear hZ
    have hl := hlZ
    clear hlZ
    refine x_callP (V := Value.int) hF (fun t h => x_rV X hl (w_J2_size _ _  t h) ht_q3 rfl rfl cpx_J2_size q994 rfl (ble_of (by omega)) rfl rfl (cat_room rfl) dX0_orders_152) (fun t4 hF => ?_)
    refine g_icmp_ge (tgt := 203) K hF dX0_orders_155 (by decide) (fun hF => ?_) (fun hF => ?_)
    · refine g_iload (i := 5) K hl dX0_orders_203 rfl ?_
      exact x_iretW X hF ha dX0_orders_205
    · refine g_iload_n (i := 2) K hl dX0_orders_158 rfl rfl ?_
      refine g_iload (i := 6) K hl dX0_orders_159 rfl ?_
      refine g_ishr K dX0_orders_161 ?_
      refine g_iconst K dX0_orders_162 lc_1 ?_
      refine g_iand K dX0_orders_163 ?_
      refine g_iconst K dX0_orders_164 lc_1 ?_
      refine g_icmp_ne (tgt := 171) K hF dX0_orders_165 (by decide) (fun hF => ?_) (fun hF => ?_)
      · refine g_aload_n (i := 0) K hl dX0_orders_171 rfl rfl ?_
        refine xg_X0_41 X hF dX0_orders_172 (fun t5 hF => ?_)
        refine g_iload_n (i := 1) K hl dX0_orders_175 rfl rfl ?_
        refine g_iload (i := 6) K hl dX0_orders_176 rfl ?_
        refine x_iast X hF ha rfl dX0_orders_178 (fun σ6 hF ha => ?_)
        refine g_aload_n (i := 0) K hl dX0_orders_179 rfl rfl ?_
        refine g_iload_n (i := 1) K hl dX0_orders_180 rfl rfl ?_
        refine g_iconst K dX0_orders_181 lc_1 ?_
        refine g_iadd K dX0_orders_182 ?_
        refine g_iload_n (i := 2) K hl dX0_orders_183 rfl rfl ?_
        refine g_iconst K dX0_orders_184 lc_1 ?_
        refine g_iload (i := 6) K hl dX0_orders_185 rfl ?_
        refine g_ishl K dX0_orders_187 ?_
        refine g_ior K dX0_orders_188 ?_
        refine g_iload_n (i := 3) K hl dX0_orders_189 rfl rfl ?_
        refine g_iload (i := 5) K hl dX0_orders_190 rfl ?_
        have hlZ := hl
        obtain ⟨q7, hq9, ht_q7, hZ⟩ := nnX_i hF
        cases hq9
        have hF := hZ
        clear hZ
        have hl := hlZ
        clear hlZ
        refine x_callW (V := Value.int) hF ha rfl (fun t h => x_rV X hl (hR_X0_orders _ _ _ _ _ _ t h) ht_q7 rfl rfl cpx_X0_orders q1363 rfl (ble_of (by omega)) rfl rfl (cat_room rfl) dX0_orders_192) (fun t8 σ9 hF ha => ?_)
        refine g_istore (i := 5) K hl dX0_orders_195 rfl rfl (fun ls hl => ?_)
        refine g_iinc (i := 6) K hl dX0_orders_197 rfl lc_1 rfl rfl (fun ls hl => ?_)
        refine g_goto (tgt := 143) K dX0_orders_200 (by decide) ?_
        exact hk143 _ _ _ _ _ _ ls hF ha (lq_sub hl rfl)
      · refine g_goto (tgt := 197) K dX0_orders_168 (by decide) ?_
        refine g_iinc (i := 6) K hl dX0_orders_197 rfl lc_1 rfl rfl (fun ls hl => ?_)
        refine g_goto (tgt := 143) K dX0_orders_200 (by decide) ?_
        exact hk143 _ _ _ _ _ _ ls hF ha (lq_sub hl rfl)
  have L143 : ∀ (n : Nat) (σ : XS) (x1 : Int32) (x2 : Int32) (x3 : Int32) (x5 : Int32) (x6 : Int32) (ls : Array Slot), X_X0_orders_L143 ro G R_X0_orders th  n σ x1 x2 x3 x5 x6 = some r → agW false wx_X0_orders σ0 σ → lq ls 8 [(0, some (.ref th)), (1, some (.int x1)), (2, some (.int x2)), (3, some (.int x3)), (5, some (.int x5)), (6, some (.int x6))] → ZX p l e (197 + dR) TL SL s m args below meth c D cx ro A false wx_X0_orders σ0 (some (.int r.1)) r.2 σ (F0 m 143 ls []) := by
    intro  n
    induction n with
    | zero => intro σ x1 x2 x3 x5 x6 ls hF; exact absurd hF (fun h => by cases h)
    | succ n ih => intro σ x1 x2 x3 x5 x6 ls hF ha hl; exact B143  _ ih _ _ _ _ _ _ ls hF ha hl
  have B41 : ∀ (k32 : XS → Int32 → Int32 → Int32 → Int32 → Int32 → Option (Int32 × XS)) (hk32 : (∀ (σ : XS) (x1 : Int32) (x3 : Int32) (x4 : Int32) (x5 : Int32) (x6 : Int32) (ls : Array Slot), k32 σ x1 x3 x4 x5 x6 = some r → agW false wx_X0_orders σ0 σ → lq ls 8 [(0, some (.ref th)), (1, some (.int x1)), (3, some (.int x3)), (4, some (.int x4)), (5, some (.int x5)), (6, some (.int x6))] → ZX p l e (197 + dR) TL SL s m args below meth c D cx ro A false wx_X0_orders σ0 (some (.int r.1)) r.2 σ (F0 m 32 ls []))) (k41 : XS → Int32 → Int32 → Int32 → Int32 → Int32 → Int32 → Option (Int32 × XS)) (hk41 : (∀ (σ : XS) (x1 : Int32) (x3 : Int32) (x4 : Int32) (x5 : Int32) (x6 : Int32) (x7 : Int32) (ls : Array Slot), k41 σ x1 x3 x4 x5 x6 x7 = some r → agW false wx_X0_orders σ0 σ → lq ls 8 [(0, some (.ref th)), (1, some (.int x1)), (3, some (.int x3)), (4, some (.int x4)), (5, some (.int x5)), (6, some (.int x6)), (7, some (.int x7))] → ZX p l e (197 + dR) TL SL s m args below meth c D cx ro A false wx_X0_orders σ0 (some (.int r.1)) r.2 σ (F0 m 41 ls []))) (σ : XS) (x1 : Int32) (x3 : Int32) (x4 : Int32) (x5 : Int32) (x6 : Int32) (x7 : Int32) (ls : Array Slot), X_X0_orders_B41 ro G R_X0_orders th k32 k41 σ x1 x3 x4 x5 x6 x7 = some r → agW false wx_X0_orders σ0 σ → lq ls 8 [(0, some (.ref th)), (1, some (.int x1)), (3, some (.int x3)), (4, some (.int x4)), (5, some (.int x5)), (6, some (.int x6)), (7, some (.int x7))] → ZX p l e (197 + dR) TL SL s m args below meth c D cx ro A false wx_X0_orders σ0 (some (.int r.1)) r.2 σ (F0 m 41 ls []) := by
    intro k32 hk32 k41 hk41 σ x1 x3 x4 x5 x6 x7 ls hF ha hl
    unfold X_X0_orders_B41 at hF
    refine g_iload (i := 7) K hl dX0_orders_41 rfl ?_
    refine g_iload_n (i := 1) K hl dX0_orders_43 rfl rfl ?_
    refine g_icmp_ge (tgt := 91) K hF dX0_orders_44 (by decide) (fun hF => ?_) (fun hF => ?_)
    · refine g_iinc (i := 6) K hl dX0_orders_91 rfl lc_1 rfl rfl (fun ls hl => ?_)
      refine g_goto (tgt := 32) K dX0_orders_94 (by decide) ?_
      exact hk32 _ _ _ _ _ _ ls hF ha (lq_sub hl rfl)
    · refine g_iload (i := 5) K hl dX0_orders_47 rfl ?_
      refine g_aload_n (i := 0) K hl dX0_orders_49 rfl rfl ?_
      refine xg_X0_12 X hF dX0_orders_50 (fun t1 hF => ?_)
      refine g_aload_n (i := 0) K hl dX0_orders_53 rfl rfl ?_
      refine xg_X0_41 X hF dX0_orders_54 (fun t2 hF => ?_)
      refine g_iload (i := 7) K hl dX0_orders_57 rfl ?_
      refine x_iald X hF dX0_orders_59 (fun t3 hF => ?_)
      refine g_aload_n (i := 0) K hl dX0_orders_60 rfl rfl ?_
      refine g_aload_n (i := 0) K hl dX0_orders_61 rfl rfl ?_
      refine xg_X0_41 X hF dX0_orders_62 (fun t4 hF => ?_)
      refine g_iload (i := 7) K hl dX0_orders_65 rfl ?_
      refine x_iald X hF dX0_orders_67 (fun t5 hF => ?_)
      have hlZ := hl
      obtain ⟨q6, hq9, ht_q6, hZ⟩ := nnX_i hF
      cases hq9
      have hF := hZ
      clear hZ
      have hl := hlZ
      clear hlZ
      refine x_callP (V := va_rf) hF (fun t h => x_rV X hl (w_X0_ruleOf _ _ _ t h) ht_q6 rfl rfl cpx_X0_ruleOf q1134 rfl (ble_of (by omega)) rfl rfl (cat_room rfl) dX0_orders_68) (fun t7 hF => ?_)
      have hlZ := hl
      obtain ⟨q8, hq9, ht_q8, hZ⟩ := nnX_i hF
      cases hq9
      have hF := hZ
      clear hZ
      have hl := hlZ
      clear hlZ
      refine x_callW (V := Value.int) hF ha rfl (fun t h => x_rV X hl (w_X1_turn G _ _ _ _ t h) ht_q8 rfl rfl cpx_X1_turn q1268 rfl (ble_of (by omega)) rfl rfl (cat_room rfl) dX0_orders_71) (fun t9 σ10 hF ha => ?_)
      refine g_if_eq (tgt := 81) K hF dX0_orders_74 (by decide) (fun hF => ?_) (fun hF => ?_)
      · refine g_iconst K dX0_orders_81 lc_0 ?_
        refine g_iadd K dX0_orders_82 ?_
        refine g_istore (i := 5) K hl dX0_orders_83 rfl rfl (fun ls hl => ?_)
        refine g_iinc (i := 7) K hl dX0_orders_85 rfl lc_1 rfl rfl (fun ls hl => ?_)
        refine g_goto (tgt := 41) K dX0_orders_88 (by decide) ?_
        exact hk41 _ _ _ _ _ _ _ ls hF ha (lq_sub hl rfl)
      · refine g_iconst K dX0_orders_77 lc_1 ?_
        refine g_goto (tgt := 82) K dX0_orders_78 (by decide) ?_
        refine g_iadd K dX0_orders_82 ?_
        refine g_istore (i := 5) K hl dX0_orders_83 rfl rfl (fun ls hl => ?_)
        refine g_iinc (i := 7) K hl dX0_orders_85 rfl lc_1 rfl rfl (fun ls hl => ?_)
        refine g_goto (tgt := 41) K dX0_orders_88 (by decide) ?_
        exact hk41 _ _ _ _ _ _ _ ls hF ha (lq_sub hl rfl)
  have L41 : ∀ (k32 : XS → Int32 → Int32 → Int32 → Int32 → Int32 → Option (Int32 × XS)) (hk32 : (∀ (σ : XS) (x1 : Int32) (x3 : Int32) (x4 : Int32) (x5 : Int32) (x6 : Int32) (ls : Array Slot), k32 σ x1 x3 x4 x5 x6 = some r → agW false wx_X0_orders σ0 σ → lq ls 8 [(0, some (.ref th)), (1, some (.int x1)), (3, some (.int x3)), (4, some (.int x4)), (5, some (.int x5)), (6, some (.int x6))] → ZX p l e (197 + dR) TL SL s m args below meth c D cx ro A false wx_X0_orders σ0 (some (.int r.1)) r.2 σ (F0 m 32 ls []))) (n : Nat) (σ : XS) (x1 : Int32) (x3 : Int32) (x4 : Int32) (x5 : Int32) (x6 : Int32) (x7 : Int32) (ls : Array Slot), X_X0_orders_L41 ro G R_X0_orders th k32 n σ x1 x3 x4 x5 x6 x7 = some r → agW false wx_X0_orders σ0 σ → lq ls 8 [(0, some (.ref th)), (1, some (.int x1)), (3, some (.int x3)), (4, some (.int x4)), (5, some (.int x5)), (6, some (.int x6)), (7, some (.int x7))] → ZX p l e (197 + dR) TL SL s m args below meth c D cx ro A false wx_X0_orders σ0 (some (.int r.1)) r.2 σ (F0 m 41 ls []) := by
    intro k32 hk32 n
    induction n with
    | zero => intro σ x1 x3 x4 x5 x6 x7 ls hF; exact absurd hF (fun h => by cases h)
    | succ n ih => intro σ x1 x3 x4 x5 x6 x7 ls hF ha hl; exact B41 k32 hk32 _ ih _ _ _ _ _ _ _ ls hF ha hl
  have B32 : ∀ (k32 : XS → Int32 → Int32 → Int32 → Int32 → Int32 → Option (Int32 × XS)) (hk32 : (∀ (σ : XS) (x1 : Int32) (x3 : Int32) (x4 : Int32) (x5 : Int32) (x6 : Int32) (ls : Array Slot), k32 σ x1 x3 x4 x5 x6 = some r → agW false wx_X0_orders σ0 σ → lq ls 8 [(0, some (.ref th)), (1, some (.int x1)), (3, some (.int x3)), (4, some (.int x4)), (5, some (.int x5)), (6, some (.int x6))] → ZX p l e (197 + dR) TL SL s m args below meth c D cx ro A false wx_X0_orders σ0 (some (.int r.1)) r.2 σ (F0 m 32 ls []))) (σ : XS) (x1 : Int32) (x3 : Int32) (x4 : Int32) (x5 : Int32) (x6 : Int32) (ls : Array Slot), X_X0_orders_B32 ro G R_X0_orders th k32 σ x1 x3 x4 x5 x6 = some r → agW false wx_X0_orders σ0 σ → lq ls 8 [(0, some (.ref th)), (1, some (.int x1)), (3, some (.int x3)), (4, some (.int x4)), (5, some (.int x5)), (6, some (.int x6))] → ZX p l e (197 + dR) TL SL s m args below meth c D cx ro A false wx_X0_orders σ0 (some (.int r.1)) r.2 σ (F0 m 32 ls []) := by
    intro k32 hk32 σ x1 x3 x4 x5 x6 ls hF ha hl
    unfold X_X0_orders_B32 at hF
    refine g_iload (i := 6) K hl dX0_orders_32 rfl ?_
    refine g_iload_n (i := 3) K hl dX0_orders_34 rfl rfl ?_
    refine g_icmp_ge (tgt := 97) K hF dX0_orders_35 (by decide) (fun hF => ?_) (fun hF => ?_)
    · refine g_aload_n (i := 0) K hl dX0_orders_97 rfl rfl ?_
      refine xg_X0_12 X hF dX0_orders_98 (fun t1 hF => ?_)
      refine g_aload_n (i := 0) K hl dX0_orders_101 rfl rfl ?_
      refine xg_X0_34 X hF dX0_orders_102 (fun t2 hF => ?_)
      refine g_iconst K dX0_orders_105 lc_0 ?_
      have hlZ := hl
      obtain ⟨q3, hq9, ht_q3, hZ⟩ := nnX_i hF
      cases hq9
      have hF := hZ
      clear hZ
      have hl := hlZ
      clear hlZ
      refine x_callV hF ha rfl (fun t h => x_rV X hl (w_X1_bringAt G _ _ _ _ t h) ht_q3 rfl rfl cpx_X1_bringAt q1307 rfl (ble_of (by omega)) rfl rfl (cat_room rfl) dX0_orders_106) (fun σ4 hF ha => ?_)
      refine g_iload (i := 5) K hl dX0_orders_109 rfl ?_
      refine g_iload (i := 4) K hl dX0_orders_111 rfl ?_
      refine g_icmp_gt (tgt := 119) K hF dX0_orders_113 (by decide) (fun hF => ?_) (fun hF => ?_)
      · refine g_aload_n (i := 0) K hl dX0_orders_119 rfl rfl ?_
        refine xg_X0_41 X hF dX0_orders_120 (fun t5 hF => ?_)
        refine g_iconst K dX0_orders_123 lc_0 ?_
        refine g_aload_n (i := 0) K hl dX0_orders_124 rfl rfl ?_
        refine xg_X0_38 X hF dX0_orders_125 (fun t6 hF => ?_)
        refine g_iconst K dX0_orders_128 lc_0 ?_
        refine g_iload_n (i := 1) K hl dX0_orders_129 rfl rfl ?_
        refine x_cpA X hl hF ha rfl q1367 (ble_of (by omega)) rfl dX0_orders_130 (fun σ7 hF ha => ?_)
        refine g_iload (i := 5) K hl dX0_orders_133 rfl ?_
        exact x_iretW X hF ha dX0_orders_135
      · refine g_iload (i := 4) K hl dX0_orders_116 rfl ?_
        exact x_iretW X hF ha dX0_orders_118
    · refine g_iconst K dX0_orders_38 lc_0 ?_
      refine g_istore (i := 7) K hl dX0_orders_39 rfl rfl (fun ls hl => ?_)
      exact L41 k32 hk32 G _ _ _ _ _ _ _ ls hF ha (lq_sub hl rfl)
  have L32 : ∀ (n : Nat) (σ : XS) (x1 : Int32) (x3 : Int32) (x4 : Int32) (x5 : Int32) (x6 : Int32) (ls : Array Slot), X_X0_orders_L32 ro G R_X0_orders th  n σ x1 x3 x4 x5 x6 = some r → agW false wx_X0_orders σ0 σ → lq ls 8 [(0, some (.ref th)), (1, some (.int x1)), (3, some (.int x3)), (4, some (.int x4)), (5, some (.int x5)), (6, some (.int x6))] → ZX p l e (197 + dR) TL SL s m args below meth c D cx ro A false wx_X0_orders σ0 (some (.int r.1)) r.2 σ (F0 m 32 ls []) := by
    intro  n
    induction n with
    | zero => intro σ x1 x3 x4 x5 x6 ls hF; exact absurd hF (fun h => by cases h)
    | succ n ih => intro σ x1 x3 x4 x5 x6 ls hF ha hl; exact B32  _ ih _ _ _ _ _ _ ls hF ha hl
  have ha : agW false wx_X0_orders σ0 σ0 := agW.rf
  unfold X_X0_orders_F at hF
  refine g_iload_n (i := 1) K hl dX0_orders_0 rfl rfl ?_
  refine g_aload_n (i := 0) K hl dX0_orders_1 rfl rfl ?_
  refine xg_X0_12 X hF dX0_orders_2 (fun t1 hF => ?_)
  refine xg_X0_94 X hF dX0_orders_5 (fun t2 hF => ?_)
  have hlZ := hl
  obtain ⟨q3, hq9, ht_q3, hZ⟩ := nnX_i hF
  cases hq9
  have hF := hZ
  clear hZ
  have hl := hlZ
  clear hlZ
  refine x_callP (V := Value.int) hF (fun t h => x_rV X hl (w_J2_size _ _  t h) ht_q3 rfl rfl cpx_J2_size q994 rfl (ble_of (by omega)) rfl rfl (cat_room rfl) dX0_orders_8) (fun t4 hF => ?_)
  refine g_icmp_ne (tgt := 136) K hF dX0_orders_11 (by decide) (fun hF => ?_) (fun hF => ?_)
  · refine g_iload (i := 4) K hl dX0_orders_136 rfl ?_
    refine g_istore (i := 5) K hl dX0_orders_138 rfl rfl (fun ls hl => ?_)
    refine g_iconst K dX0_orders_140 lc_0 ?_
    refine g_istore (i := 6) K hl dX0_orders_141 rfl rfl (fun ls hl => ?_)
    exact L143  G _ _ _ _ _ _ ls hF ha (lq_sub hl rfl)
  · refine g_aload_n (i := 0) K hl dX0_orders_14 rfl rfl ?_
    refine xg_X0_12 X hF dX0_orders_15 (fun t5 hF => ?_)
    refine g_aload_n (i := 0) K hl dX0_orders_18 rfl rfl ?_
    refine xg_X0_34 X hF dX0_orders_19 (fun t6 hF => ?_)
    refine g_iconst K dX0_orders_22 lc_0 ?_
    have hlZ := hl
    obtain ⟨q7, hq9, ht_q7, hZ⟩ := nnX_i hF
    cases hq9
    have hF := hZ
    clear hZ
    have hl := hlZ
    clear hlZ
    refine x_callV hF ha rfl (fun t h => x_rV X hl (w_X1_keepAt G _ _ _ _ t h) ht_q7 rfl rfl cpx_X1_keepAt q1303 rfl (ble_of (by omega)) rfl rfl (cat_room rfl) dX0_orders_23) (fun σ8 hF ha => ?_)
    refine g_iconst K dX0_orders_26 lc_0 ?_
    refine g_istore (i := 5) K hl dX0_orders_27 rfl rfl (fun ls hl => ?_)
    refine g_iconst K dX0_orders_29 lc_0 ?_
    refine g_istore (i := 6) K hl dX0_orders_30 rfl rfl (fun ls hl => ?_)
    exact L32  G _ _ _ _ _ _ ls hF ha (lq_sub hl rfl)
theorem w_X0_orders {l : Launch} {D : va_G} {cx ro : Nat → Nat} {A : Nat → Prop} {TL SL : Nat} (G : Nat) (D9 : Nat) : ∀ (σ : XS) (th : Nat) (a0 : Int32) (a1 : Int32) (a2 : Int32) (a3 : Int32) (r : (Int32 × XS)), X_X0_orders ro G D9 σ th a0 a1 a2 a3 = some r → xMet l D cx ro A TL SL yX0_orders cX0_orders 8 (some .int) (197 + D9 - 1) false wx_X0_orders [.ref th, .int a0, .int a1, .int a2, .int a3] σ (some (.int r.1)) r.2 := by
  induction D9 with
  | zero => intro σ th a0 a1 a2 a3 r hF; exact absurd hF (fun h => by cases h)
  | succ D9 ih =>
    intro σ th a0 a1 a2 a3 r hF
    exact w_X0_orders_F G (X_X0_orders ro G D9) D9 ih σ th a0 a1 a2 a3 r hF

theorem cpx_X0_order : cpV yX0_order cX0_order 3 (some .int) 1 := ⟨q1360, q1361, q145, q1362, by decide +kernel⟩
set_option maxHeartbeats 4000000 in
set_option maxRecDepth 100000 in
theorem w_X0_order {l : Launch} {D : va_G} {cx ro : Nat → Nat} {A : Nat → Prop} {TL SL : Nat} (G : Nat) (σ0 : XS) (th : Nat) (a0 : Int32) (r : (Int32 × XS)) (hF : X_X0_order ro G σ0 th a0 = some r) : xMet l D cx ro A TL SL yX0_order cX0_order 3 (some .int) 206 false wx_X0_order [.ref th, .int a0] σ0 (some (.int r.1)) r.2 := by
  refine x_of (l9 := [(0, some (.ref th)), (1, some (.int a0))]) (by decide) (by exact Nat.le_of_ble_eq_true rfl) (by rfl) ?_
  intro p e s m args below meth c ls X K hnm hl hlm
  have ha : agW false wx_X0_order σ0 σ0 := agW.rf
  unfold X_X0_order at hF
  refine g_aload_n (i := 0) K hl dX0_order_0 rfl rfl ?_
  refine g_iconst K dX0_order_1 lc_0 ?_
  refine xp_X0_62 X hF ha rfl dX0_order_2 (fun σ1 hF ha => ?_)
  refine g_iload_n (i := 1) K hl dX0_order_5 rfl rfl ?_
  refine g_iconst K dX0_order_6 lc_1 ?_
  refine g_bipush K dX0_order_7 lb_10 ?_
  refine x_callP (V := Value.int) hF (fun t h => x_rS X hl (w_X0_isIn _ _ _ _ t h) cpx_X0_isIn q1007 rfl rfl rfl rfl (cat_room rfl) dX0_order_9) (fun t2 hF => ?_)
  refine g_if_ne (tgt := 17) K hF dX0_order_12 (by decide) (fun hF => ?_) (fun hF => ?_)
  · refine g_aload_n (i := 0) K hl dX0_order_17 rfl rfl ?_
    refine g_iconst K dX0_order_18 lc_0 ?_
    refine g_iconst K dX0_order_19 lc_0 ?_
    refine g_iload_n (i := 1) K hl dX0_order_20 rfl rfl ?_
    refine g_iconst K dX0_order_21 lc_m1 ?_
    have hlZ := hl
    obtain ⟨q3, hq9, ht_q3, hZ⟩ := nnX_i hF
    cases hq9
    have hF := hZ
    clear hZ
    have hl := hlZ
    clear hlZ
    refine x_callW (V := Value.int) hF ha rfl (fun t h => x_rV X hl (w_X0_orders G 8 _ _ _ _ _ _ t h) ht_q3 rfl rfl cpx_X0_orders q1363 rfl rfl rfl rfl (cat_room rfl) dX0_order_22) (fun t4 σ5 hF ha => ?_)
    refine g_istore_n (i := 2) K hl dX0_order_25 rfl rfl rfl (fun ls hl => ?_)
    refine g_aload_n (i := 0) K hl dX0_order_26 rfl rfl ?_
    refine g_aload_n (i := 0) K hl dX0_order_27 rfl rfl ?_
    refine xg_X0_12 X hF dX0_order_28 (fun t6 hF => ?_)
    refine xg_X0_94 X hF dX0_order_31 (fun t7 hF => ?_)
    have hlZ := hl
    obtain ⟨q8, hq9, ht_q8, hZ⟩ := nnX_i hF
    cases hq9
    have hF := hZ
    clear hZ
    have hl := hlZ
    clear hlZ
    refine x_callP (V := Value.int) hF (fun t h => x_rV X hl (w_J2_size _ _  t h) ht_q8 rfl rfl cpx_J2_size q994 rfl rfl rfl rfl (cat_room rfl) dX0_order_34) (fun t9 hF => ?_)
    refine xp_X0_62 X hF ha rfl dX0_order_37 (fun σ10 hF ha => ?_)
    refine g_iload_n (i := 2) K hl dX0_order_40 rfl rfl ?_
    exact x_iretW X hF ha dX0_order_41
  · refine g_iconst K dX0_order_15 lc_m1 ?_
    exact x_iretW X hF ha dX0_order_16

theorem cpx_X0_driven : cpV yX0_driven cX0_driven 9 (some .boolean) 5 := ⟨q1374, qs54, q145, q1375, by decide +kernel⟩
set_option maxHeartbeats 4000000 in
set_option maxRecDepth 100000 in
theorem w_X0_driven_F {l : Launch} {D : va_G} {cx ro : Nat → Nat} {A : Nat → Prop} {TL SL : Nat} (G : Nat) (R_X0_driven : XS → Nat → Option Nat → Option Nat → Option Nat → Int32 → Int32 → Option (Int32 × XS)) (dR : Nat) (hR_X0_driven : ∀ (σ : XS) (th : Nat) (a0 : Option Nat) (a1 : Option Nat) (a2 : Option Nat) (a3 : Int32) (a4 : Int32) (r : (Int32 × XS)), R_X0_driven σ th a0 a1 a2 a3 a4 = some r → xMet l D cx ro A TL SL yX0_driven cX0_driven 9 (some .boolean) (19 + dR - 1) false wx_X0_driven [.ref th, va_rf a0, va_rf a1, va_rf a2, .int a3, .int a4] σ (some (.int r.1)) r.2) (σ0 : XS) (th : Nat) (a0 : Option Nat) (a1 : Option Nat) (a2 : Option Nat) (a3 : Int32) (a4 : Int32) (r : (Int32 × XS)) (hF : X_X0_driven_F ro G R_X0_driven σ0 th a0 a1 a2 a3 a4 = some r) : xMet l D cx ro A TL SL yX0_driven cX0_driven 9 (some .boolean) (19 + dR) false wx_X0_driven [.ref th, va_rf a0, va_rf a1, va_rf a2, .int a3, .int a4] σ0 (some (.int r.1)) r.2 := by
  refine x_of (l9 := [(0, some (.ref th)), (1, some (va_rf a0)), (2, some (va_rf a1)), (3, some (va_rf a2)), (4, some (.int a3)), (5, some (.int a4))]) (by decide) (by cases a0 <;> cases a1 <;> cases a2 <;> exact Nat.le_of_ble_eq_true rfl) (by cases a0 <;> cases a1 <;> cases a2 <;> rfl) ?_
  intro p e s m args below meth c ls X K hnm hl hlm
  have B41 : ∀ (k41 : XS → Option Nat → Option Nat → Option Nat → Int32 → Int32 → Int32 → Int32 → Option (Int32 × XS)) (hk41 : (∀ (σ : XS) (x1 : Option Nat) (x2 : Option Nat) (x3 : Option Nat) (x4 : Int32) (x5 : Int32) (x6 : Int32) (x7 : Int32) (ls : Array Slot), k41 σ x1 x2 x3 x4 x5 x6 x7 = some r → agW false wx_X0_driven σ0 σ → lq ls 9 [(0, some (.ref th)), (1, some (va_rf x1)), (2, some (va_rf x2)), (3, some (va_rf x3)), (4, some (.int x4)), (5, some (.int x5)), (6, some (.int x6)), (7, some (.int x7))] → ZX p l e (19 + dR) TL SL s m args below meth c D cx ro A false wx_X0_driven σ0 (some (.int r.1)) r.2 σ (F0 m 41 ls []))) (σ : XS) (x1 : Option Nat) (x2 : Option Nat) (x3 : Option Nat) (x4 : Int32) (x5 : Int32) (x6 : Int32) (x7 : Int32) (ls : Array Slot), X_X0_driven_B41 ro G R_X0_driven th k41 σ x1 x2 x3 x4 x5 x6 x7 = some r → agW false wx_X0_driven σ0 σ → lq ls 9 [(0, some (.ref th)), (1, some (va_rf x1)), (2, some (va_rf x2)), (3, some (va_rf x3)), (4, some (.int x4)), (5, some (.int x5)), (6, some (.int x6)), (7, some (.int x7))] → ZX p l e (19 + dR) TL SL s m args below meth c D cx ro A false wx_X0_driven σ0 (some (.int r.1)) r.2 σ (F0 m 41 ls []) := by
    intro k41 hk41 σ x1 x2 x3 x4 x5 x6 x7 ls hF ha hl
    unfold X_X0_driven_B41 at hF
    refine g_iload (i := 7) K hl dX0_driven_41 rfl ?_
    refine g_aload_n (i := 0) K hl dX0_driven_43 rfl rfl ?_
    refine xg_X0_12 X hF dX0_driven_44 (fun t1 hF => ?_)
    refine xg_X0_87 X hF dX0_driven_47 (fun t2 hF => ?_)
    have hlZ := hl
    obtain ⟨q3, hq9, ht_q3, hZ⟩ := nnX_i hF
    cases hq9
    have hF := hZ
    clear hZ
    have hl := hlZ
    clear hlZ
    refine x_callP (V := Value.int) hF (fun t h => x_rV X hl (w_J2_size _ _  t h) ht_q3 rfl rfl cpx_J2_size q994 rfl (ble_of (by omega)) rfl rfl (cat_room rfl) dX0_driven_50) (fun t4 hF => ?_)
    refine g_icmp_ge (tgt := 164) K hF dX0_driven_53 (by decide) (fun hF => ?_) (fun hF => ?_)
    · refine g_iconst K dX0_driven_164 lc_0 ?_
      exact x_zretW X hF (Or.inl rfl) ha dX0_driven_165
    · refine g_aload_n (i := 0) K hl dX0_driven_56 rfl rfl ?_
      refine xg_X0_12 X hF dX0_driven_57 (fun t5 hF => ?_)
      refine g_aloadR_n (i := 1) K hl dX0_driven_60 rfl rfl ?_
      refine g_aload_n (i := 0) K hl dX0_driven_61 rfl rfl ?_
      refine xg_X0_12 X hF dX0_driven_62 (fun t6 hF => ?_)
      refine xg_X0_87 X hF dX0_driven_65 (fun t7 hF => ?_)
      refine g_iload (i := 7) K hl dX0_driven_68 rfl ?_
      have hlZ := hl
      obtain ⟨q8, hq9, ht_q8, hZ⟩ := nnX_i hF
      cases hq9
      have hF := hZ
      clear hZ
      have hl := hlZ
      clear hlZ
      refine x_callP (V := va_rf) hF (fun t h => x_rV X hl (w_J2_get _ _ _ t h) ht_q8 rfl rfl cpx_J2_get q1010 rfl (ble_of (by omega)) rfl rfl (cat_room rfl) dX0_driven_70) (fun t9 hF => ?_)
      refine x_cast X hF rfl q1011 dX0_driven_73 (fun hF => ?_)
      refine g_iconst K dX0_driven_76 lc_0 ?_
      have hlZ := hl
      obtain ⟨q10, hq9, ht_q10, hZ⟩ := nnX_i hF
      cases hq9
      have hF := hZ
      clear hZ
      have hl := hlZ
      clear hlZ
      refine x_callP (V := Value.int) hF (fun t h => x_rV X hl (w_X1_can G _ _ _ _ _ t h) ht_q10 rfl rfl cpx_X1_can q1029 rfl (ble_of (by omega)) rfl rfl (cat_room rfl) dX0_driven_77) (fun t11 hF => ?_)
      refine g_if_ne (tgt := 86) K hF dX0_driven_80 (by decide) (fun hF => ?_) (fun hF => ?_)
      · refine x_gets (j := 0) X rfl q1304 dX0_driven_86 ?_
        refine g_iconst K dX0_driven_89 lc_0 ?_
        refine x_aald X hF dX0_driven_90 (fun t12 hF => ?_)
        refine g_aload_n (i := 0) K hl dX0_driven_91 rfl rfl ?_
        refine xg_X0_12 X hF dX0_driven_92 (fun t13 hF => ?_)
        refine g_aloadR_n (i := 1) K hl dX0_driven_95 rfl rfl ?_
        refine g_aload_n (i := 0) K hl dX0_driven_96 rfl rfl ?_
        refine xg_X0_12 X hF dX0_driven_97 (fun t14 hF => ?_)
        refine xg_X0_87 X hF dX0_driven_100 (fun t15 hF => ?_)
        refine g_iload (i := 7) K hl dX0_driven_103 rfl ?_
        have hlZ := hl
        obtain ⟨q16, hq9, ht_q16, hZ⟩ := nnX_i hF
        cases hq9
        have hF := hZ
        clear hZ
        have hl := hlZ
        clear hlZ
        refine x_callP (V := va_rf) hF (fun t h => x_rV X hl (w_J2_get _ _ _ t h) ht_q16 rfl rfl cpx_J2_get q1010 rfl (ble_of (by omega)) rfl rfl (cat_room rfl) dX0_driven_105) (fun t17 hF => ?_)
        refine x_cast X hF rfl q1011 dX0_driven_108 (fun hF => ?_)
        refine x_callV hF ha rfl (fun t h => xr_v_Try_missed X hl (w_v_Try_missed G _ _ _ _ _ t h) q1308 (ble_of (by omega)) rfl (cat_room rfl) dX0_driven_111) (fun σ18 hF ha => ?_)
        refine g_aload_n (i := 0) K hl dX0_driven_114 rfl rfl ?_
        refine xg_X0_38 X hF dX0_driven_115 (fun t19 hF => ?_)
        refine g_iload (i := 4) K hl dX0_driven_118 rfl ?_
        refine g_iload (i := 7) K hl dX0_driven_120 rfl ?_
        refine x_iast X hF ha rfl dX0_driven_122 (fun σ20 hF ha => ?_)
        refine g_aload_n (i := 0) K hl dX0_driven_123 rfl rfl ?_
        refine g_aloadR_n (i := 1) K hl dX0_driven_124 rfl rfl ?_
        refine g_aloadR_n (i := 2) K hl dX0_driven_125 rfl rfl ?_
        refine g_aloadR_n (i := 3) K hl dX0_driven_126 rfl rfl ?_
        refine g_iload (i := 4) K hl dX0_driven_127 rfl ?_
        refine g_iconst K dX0_driven_129 lc_1 ?_
        refine g_iadd K dX0_driven_130 ?_
        refine g_iload (i := 5) K hl dX0_driven_131 rfl ?_
        have hlZ := hl
        obtain ⟨q21, hq9, ht_q21, hZ⟩ := nnX_i hF
        cases hq9
        have hF := hZ
        clear hZ
        have hl := hlZ
        clear hlZ
        refine x_callW (V := Value.int) hF ha rfl (fun t h => x_rV X hl (hR_X0_driven _ _ _ _ _ _ _ t h) ht_q21 rfl rfl cpx_X0_driven q1372 rfl (ble_of (by omega)) rfl rfl (cat_room rfl) dX0_driven_133) (fun t22 σ23 hF ha => ?_)
        refine g_istore (i := 8) K hl dX0_driven_136 rfl rfl (fun ls hl => ?_)
        refine g_aload_n (i := 0) K hl dX0_driven_138 rfl rfl ?_
        refine xg_X0_12 X hF dX0_driven_139 (fun t24 hF => ?_)
        refine g_aload_n (i := 0) K hl dX0_driven_142 rfl rfl ?_
        refine xg_X0_34 X hF dX0_driven_143 (fun t25 hF => ?_)
        refine g_iload (i := 6) K hl dX0_driven_146 rfl ?_
        have hlZ := hl
        obtain ⟨q26, hq9, ht_q26, hZ⟩ := nnX_i hF
        cases hq9
        have hF := hZ
        clear hZ
        have hl := hlZ
        clear hlZ
        refine x_callV hF ha rfl (fun t h => x_rV X hl (w_X1_bringAt G _ _ _ _ t h) ht_q26 rfl rfl cpx_X1_bringAt q1307 rfl (ble_of (by omega)) rfl rfl (cat_room rfl) dX0_driven_148) (fun σ27 hF ha => ?_)
        refine g_iload (i := 8) K hl dX0_driven_151 rfl ?_
        refine g_if_eq (tgt := 158) K hF dX0_driven_153 (by decide) (fun hF => ?_) (fun hF => ?_)
        · refine g_iinc (i := 7) K hl dX0_driven_158 rfl lc_1 rfl rfl (fun ls hl => ?_)
          refine g_goto (tgt := 41) K dX0_driven_161 (by decide) ?_
          exact hk41 _ _ _ _ _ _ _ _ ls hF ha (lq_sub hl rfl)
        · refine g_iconst K dX0_driven_156 lc_1 ?_
          exact x_zretW X hF (Or.inr rfl) ha dX0_driven_157
      · refine g_goto (tgt := 158) K dX0_driven_83 (by decide) ?_
        refine g_iinc (i := 7) K hl dX0_driven_158 rfl lc_1 rfl rfl (fun ls hl => ?_)
        refine g_goto (tgt := 41) K dX0_driven_161 (by decide) ?_
        exact hk41 _ _ _ _ _ _ _ _ ls hF ha (lq_sub hl rfl)
  have L41 : ∀ (n : Nat) (σ : XS) (x1 : Option Nat) (x2 : Option Nat) (x3 : Option Nat) (x4 : Int32) (x5 : Int32) (x6 : Int32) (x7 : Int32) (ls : Array Slot), X_X0_driven_L41 ro G R_X0_driven th  n σ x1 x2 x3 x4 x5 x6 x7 = some r → agW false wx_X0_driven σ0 σ → lq ls 9 [(0, some (.ref th)), (1, some (va_rf x1)), (2, some (va_rf x2)), (3, some (va_rf x3)), (4, some (.int x4)), (5, some (.int x5)), (6, some (.int x6)), (7, some (.int x7))] → ZX p l e (19 + dR) TL SL s m args below meth c D cx ro A false wx_X0_driven σ0 (some (.int r.1)) r.2 σ (F0 m 41 ls []) := by
    intro  n
    induction n with
    | zero => intro σ x1 x2 x3 x4 x5 x6 x7 ls hF; exact absurd hF (fun h => by cases h)
    | succ n ih => intro σ x1 x2 x3 x4 x5 x6 x7 ls hF ha hl; exact B41  _ ih _ _ _ _ _ _ _ _ ls hF ha hl
  have ha : agW false wx_X0_driven σ0 σ0 := agW.rf
  unfold X_X0_driven_F at hF
  refine g_iload (i := 4) K hl dX0_driven_0 rfl ?_
  refine g_iload (i := 5) K hl dX0_driven_2 rfl ?_
  refine g_icmp_ne (tgt := 18) K hF dX0_driven_4 (by decide) (fun hF => ?_) (fun hF => ?_)
  · refine g_bipush K dX0_driven_18 lb_123 ?_
    refine g_iload (i := 4) K hl dX0_driven_20 rfl ?_
    refine g_imul K dX0_driven_22 ?_
    refine g_istore (i := 6) K hl dX0_driven_23 rfl rfl (fun ls hl => ?_)
    refine g_aload_n (i := 0) K hl dX0_driven_25 rfl rfl ?_
    refine xg_X0_12 X hF dX0_driven_26 (fun t1 hF => ?_)
    refine g_aload_n (i := 0) K hl dX0_driven_29 rfl rfl ?_
    refine xg_X0_34 X hF dX0_driven_30 (fun t2 hF => ?_)
    refine g_iload (i := 6) K hl dX0_driven_33 rfl ?_
    have hlZ := hl
    obtain ⟨q3, hq9, ht_q3, hZ⟩ := nnX_i hF
    cases hq9
    have hF := hZ
    clear hZ
    have hl := hlZ
    clear hlZ
    refine x_callV hF ha rfl (fun t h => x_rV X hl (w_X1_keepAt G _ _ _ _ t h) ht_q3 rfl rfl cpx_X1_keepAt q1303 rfl (ble_of (by omega)) rfl rfl (cat_room rfl) dX0_driven_35) (fun σ4 hF ha => ?_)
    refine g_iconst K dX0_driven_38 lc_0 ?_
    refine g_istore (i := 7) K hl dX0_driven_39 rfl rfl (fun ls hl => ?_)
    exact L41  G _ _ _ _ _ _ _ _ ls hF ha (lq_sub hl rfl)
  · refine g_aload_n (i := 0) K hl dX0_driven_7 rfl rfl ?_
    refine xg_X0_12 X hF dX0_driven_8 (fun t5 hF => ?_)
    refine g_aloadR_n (i := 2) K hl dX0_driven_11 rfl rfl ?_
    refine g_aloadR_n (i := 3) K hl dX0_driven_12 rfl rfl ?_
    refine g_iconst K dX0_driven_13 lc_0 ?_
    have hlZ := hl
    obtain ⟨q6, hq9, ht_q6, hZ⟩ := nnX_i hF
    cases hq9
    have hF := hZ
    clear hZ
    have hl := hlZ
    clear hlZ
    refine x_callP (V := Value.int) hF (fun t h => x_rV X hl (w_X1_can G _ _ _ _ _ t h) ht_q6 rfl rfl cpx_X1_can q1029 rfl (ble_of (by omega)) rfl rfl (cat_room rfl) dX0_driven_14) (fun t7 hF => ?_)
    obtain ⟨hz, hF⟩ := bzI_i hF
    exact x_zretW X hF hz ha dX0_driven_17
theorem w_X0_driven {l : Launch} {D : va_G} {cx ro : Nat → Nat} {A : Nat → Prop} {TL SL : Nat} (G : Nat) (D9 : Nat) : ∀ (σ : XS) (th : Nat) (a0 : Option Nat) (a1 : Option Nat) (a2 : Option Nat) (a3 : Int32) (a4 : Int32) (r : (Int32 × XS)), X_X0_driven ro G D9 σ th a0 a1 a2 a3 a4 = some r → xMet l D cx ro A TL SL yX0_driven cX0_driven 9 (some .boolean) (19 + D9 - 1) false wx_X0_driven [.ref th, va_rf a0, va_rf a1, va_rf a2, .int a3, .int a4] σ (some (.int r.1)) r.2 := by
  induction D9 with
  | zero => intro σ th a0 a1 a2 a3 a4 r hF; exact absurd hF (fun h => by cases h)
  | succ D9 ih =>
    intro σ th a0 a1 a2 a3 a4 r hF
    exact w_X0_driven_F G (X_X0_driven ro G D9) D9 ih σ th a0 a1 a2 a3 a4 r hF

theorem cpx_X0_drives : cpV yX0_drives cX0_drives 5 (some .int) 3 := ⟨q1369, q1370, q145, q1371, by decide +kernel⟩
set_option maxHeartbeats 4000000 in
set_option maxRecDepth 100000 in
theorem w_X0_drives {l : Launch} {D : va_G} {cx ro : Nat → Nat} {A : Nat → Prop} {TL SL : Nat} (G : Nat) (σ0 : XS) (th : Nat) (a0 : Int32) (a1 : Int32) (a2 : Int32) (r : (Int32 × XS)) (hF : X_X0_drives ro G σ0 th a0 a1 a2 = some r) : xMet l D cx ro A TL SL yX0_drives cX0_drives 5 (some .int) 28 false wx_X0_drives [.ref th, .int a0, .int a1, .int a2] σ0 (some (.int r.1)) r.2 := by
  refine x_of (l9 := [(0, some (.ref th)), (1, some (.int a0)), (2, some (.int a1)), (3, some (.int a2))]) (by decide) (by exact Nat.le_of_ble_eq_true rfl) (by rfl) ?_
  intro p e s m args below meth c ls X K hnm hl hlm
  have B61 : ∀ (k61 : XS → Int32 → Int32 → Int32 → Int32 → Option (Int32 × XS)) (hk61 : (∀ (σ : XS) (x1 : Int32) (x2 : Int32) (x3 : Int32) (x4 : Int32) (ls : Array Slot), k61 σ x1 x2 x3 x4 = some r → agW false wx_X0_drives σ0 σ → lq ls 5 [(0, some (.ref th)), (1, some (.int x1)), (2, some (.int x2)), (3, some (.int x3)), (4, some (.int x4))] → ZX p l e 28 TL SL s m args below meth c D cx ro A false wx_X0_drives σ0 (some (.int r.1)) r.2 σ (F0 m 61 ls []))) (σ : XS) (x1 : Int32) (x2 : Int32) (x3 : Int32) (x4 : Int32) (ls : Array Slot), X_X0_drives_B61 ro G th k61 σ x1 x2 x3 x4 = some r → agW false wx_X0_drives σ0 σ → lq ls 5 [(0, some (.ref th)), (1, some (.int x1)), (2, some (.int x2)), (3, some (.int x3)), (4, some (.int x4))] → ZX p l e 28 TL SL s m args below meth c D cx ro A false wx_X0_drives σ0 (some (.int r.1)) r.2 σ (F0 m 61 ls []) := by
    intro k61 hk61 σ x1 x2 x3 x4 ls hF ha hl
    unfold X_X0_drives_B61 at hF
    refine g_iload (i := 4) K hl dX0_drives_61 rfl ?_
    refine g_iconst K dX0_drives_63 lc_4 ?_
    refine g_icmp_gt (tgt := 137) K hF dX0_drives_64 (by decide) (fun hF => ?_) (fun hF => ?_)
    · refine g_iconst K dX0_drives_137 lc_m1 ?_
      exact x_iretW X hF ha dX0_drives_138
    · refine g_aload_n (i := 0) K hl dX0_drives_67 rfl rfl ?_
      refine g_aload_n (i := 0) K hl dX0_drives_68 rfl rfl ?_
      refine xg_X0_12 X hF dX0_drives_69 (fun t1 hF => ?_)
      refine xg_X0_94 X hF dX0_drives_72 (fun t2 hF => ?_)
      refine g_iload_n (i := 1) K hl dX0_drives_75 rfl rfl ?_
      have hlZ := hl
      obtain ⟨q3, hq9, ht_q3, hZ⟩ := nnX_i hF
      cases hq9
      have hF := hZ
      clear hZ
      have hl := hlZ
      clear hlZ
      refine x_callP (V := va_rf) hF (fun t h => x_rV X hl (w_J2_get _ _ _ t h) ht_q3 rfl rfl cpx_J2_get q1010 rfl rfl rfl rfl (cat_room rfl) dX0_drives_76) (fun t4 hF => ?_)
      refine x_cast X hF rfl q1020 dX0_drives_79 (fun hF => ?_)
      refine g_aload_n (i := 0) K hl dX0_drives_82 rfl rfl ?_
      refine xg_X0_12 X hF dX0_drives_83 (fun t5 hF => ?_)
      refine xg_X0_94 X hF dX0_drives_86 (fun t6 hF => ?_)
      refine g_iload_n (i := 2) K hl dX0_drives_89 rfl rfl ?_
      have hlZ := hl
      obtain ⟨q7, hq9, ht_q7, hZ⟩ := nnX_i hF
      cases hq9
      have hF := hZ
      clear hZ
      have hl := hlZ
      clear hlZ
      refine x_callP (V := va_rf) hF (fun t h => x_rV X hl (w_J2_get _ _ _ t h) ht_q7 rfl rfl cpx_J2_get q1010 rfl rfl rfl rfl (cat_room rfl) dX0_drives_90) (fun t8 hF => ?_)
      refine x_cast X hF rfl q1020 dX0_drives_93 (fun hF => ?_)
      refine g_aload_n (i := 0) K hl dX0_drives_96 rfl rfl ?_
      refine xg_X0_12 X hF dX0_drives_97 (fun t9 hF => ?_)
      refine xg_X0_87 X hF dX0_drives_100 (fun t10 hF => ?_)
      refine g_iload_n (i := 3) K hl dX0_drives_103 rfl rfl ?_
      have hlZ := hl
      obtain ⟨q11, hq9, ht_q11, hZ⟩ := nnX_i hF
      cases hq9
      have hF := hZ
      clear hZ
      have hl := hlZ
      clear hlZ
      refine x_callP (V := va_rf) hF (fun t h => x_rV X hl (w_J2_get _ _ _ t h) ht_q11 rfl rfl cpx_J2_get q1010 rfl rfl rfl rfl (cat_room rfl) dX0_drives_104) (fun t12 hF => ?_)
      refine x_cast X hF rfl q1011 dX0_drives_107 (fun hF => ?_)
      refine g_iconst K dX0_drives_110 lc_0 ?_
      refine g_iload (i := 4) K hl dX0_drives_111 rfl ?_
      have hlZ := hl
      obtain ⟨q13, hq9, ht_q13, hZ⟩ := nnX_i hF
      cases hq9
      have hF := hZ
      clear hZ
      have hl := hlZ
      clear hlZ
      refine x_callW (V := Value.int) hF ha rfl (fun t h => x_rV X hl (w_X0_driven G 8 _ _ _ _ _ _ _ t h) ht_q13 rfl rfl cpx_X0_driven q1372 rfl rfl rfl rfl (cat_room rfl) dX0_drives_113) (fun t14 σ15 hF ha => ?_)
      refine g_if_ne (tgt := 122) K hF dX0_drives_116 (by decide) (fun hF => ?_) (fun hF => ?_)
      · refine g_aload_n (i := 0) K hl dX0_drives_122 rfl rfl ?_
        refine g_iload (i := 4) K hl dX0_drives_123 rfl ?_
        refine xp_X0_62 X hF ha rfl dX0_drives_125 (fun σ16 hF ha => ?_)
        refine g_iload (i := 4) K hl dX0_drives_128 rfl ?_
        exact x_iretW X hF ha dX0_drives_130
      · refine g_goto (tgt := 131) K dX0_drives_119 (by decide) ?_
        refine g_iinc (i := 4) K hl dX0_drives_131 rfl lc_1 rfl rfl (fun ls hl => ?_)
        refine g_goto (tgt := 61) K dX0_drives_134 (by decide) ?_
        exact hk61 _ _ _ _ _ ls hF ha (lq_sub hl rfl)
  have L61 : ∀ (n : Nat) (σ : XS) (x1 : Int32) (x2 : Int32) (x3 : Int32) (x4 : Int32) (ls : Array Slot), X_X0_drives_L61 ro G th  n σ x1 x2 x3 x4 = some r → agW false wx_X0_drives σ0 σ → lq ls 5 [(0, some (.ref th)), (1, some (.int x1)), (2, some (.int x2)), (3, some (.int x3)), (4, some (.int x4))] → ZX p l e 28 TL SL s m args below meth c D cx ro A false wx_X0_drives σ0 (some (.int r.1)) r.2 σ (F0 m 61 ls []) := by
    intro  n
    induction n with
    | zero => intro σ x1 x2 x3 x4 ls hF; exact absurd hF (fun h => by cases h)
    | succ n ih => intro σ x1 x2 x3 x4 ls hF ha hl; exact B61  _ ih _ _ _ _ _ ls hF ha hl
  have ha : agW false wx_X0_drives σ0 σ0 := agW.rf
  unfold X_X0_drives at hF
  refine g_aload_n (i := 0) K hl dX0_drives_0 rfl rfl ?_
  refine g_iconst K dX0_drives_1 lc_0 ?_
  refine xp_X0_62 X hF ha rfl dX0_drives_2 (fun σ1 hF ha => ?_)
  refine g_aload_n (i := 0) K hl dX0_drives_5 rfl rfl ?_
  refine g_iload_n (i := 1) K hl dX0_drives_6 rfl rfl ?_
  have hlZ := hl
  obtain ⟨q2, hq9, ht_q2, hZ⟩ := nnX_i hF
  cases hq9
  have hF := hZ
  clear hZ
  have hl := hlZ
  clear hlZ
  refine x_callP (V := Value.int) hF (fun t h => x_rV X hl (w_X0_isBobber _ _ _ t h) ht_q2 rfl rfl cpx_X0_isBobber q1016 rfl rfl rfl rfl (cat_room rfl) dX0_drives_7) (fun t3 hF => ?_)
  refine g_if_eq (tgt := 55) K hF dX0_drives_10 (by decide) (fun hF => ?_) (fun hF => ?_)
  · refine g_bipush K dX0_drives_55 lb_m2 ?_
    exact x_iretW X hF ha dX0_drives_57
  · refine g_aload_n (i := 0) K hl dX0_drives_13 rfl rfl ?_
    refine g_iload_n (i := 2) K hl dX0_drives_14 rfl rfl ?_
    have hlZ := hl
    obtain ⟨q4, hq9, ht_q4, hZ⟩ := nnX_i hF
    cases hq9
    have hF := hZ
    clear hZ
    have hl := hlZ
    clear hlZ
    refine x_callP (V := Value.int) hF (fun t h => x_rV X hl (w_X0_isBobber _ _ _ t h) ht_q4 rfl rfl cpx_X0_isBobber q1016 rfl rfl rfl rfl (cat_room rfl) dX0_drives_15) (fun t5 hF => ?_)
    refine g_if_eq (tgt := 55) K hF dX0_drives_18 (by decide) (fun hF => ?_) (fun hF => ?_)
    · refine g_bipush K dX0_drives_55 lb_m2 ?_
      exact x_iretW X hF ha dX0_drives_57
    · refine g_iload_n (i := 1) K hl dX0_drives_21 rfl rfl ?_
      refine g_iload_n (i := 2) K hl dX0_drives_22 rfl rfl ?_
      refine g_icmp_eq (tgt := 55) K hF dX0_drives_23 (by decide) (fun hF => ?_) (fun hF => ?_)
      · refine g_bipush K dX0_drives_55 lb_m2 ?_
        exact x_iretW X hF ha dX0_drives_57
      · refine g_aload_n (i := 0) K hl dX0_drives_26 rfl rfl ?_
        refine g_iload_n (i := 3) K hl dX0_drives_27 rfl rfl ?_
        have hlZ := hl
        obtain ⟨q6, hq9, ht_q6, hZ⟩ := nnX_i hF
        cases hq9
        have hF := hZ
        clear hZ
        have hl := hlZ
        clear hlZ
        refine x_callP (V := Value.int) hF (fun t h => x_rV X hl (w_X0_isApple _ _ _ t h) ht_q6 rfl rfl cpx_X0_isApple q1003 rfl rfl rfl rfl (cat_room rfl) dX0_drives_28) (fun t7 hF => ?_)
        refine g_if_eq (tgt := 55) K hF dX0_drives_31 (by decide) (fun hF => ?_) (fun hF => ?_)
        · refine g_bipush K dX0_drives_55 lb_m2 ?_
          exact x_iretW X hF ha dX0_drives_57
        · refine g_aload_n (i := 0) K hl dX0_drives_34 rfl rfl ?_
          refine xg_X0_12 X hF dX0_drives_35 (fun t8 hF => ?_)
          refine xg_X0_87 X hF dX0_drives_38 (fun t9 hF => ?_)
          refine g_iload_n (i := 3) K hl dX0_drives_41 rfl rfl ?_
          have hlZ := hl
          obtain ⟨q10, hq9, ht_q10, hZ⟩ := nnX_i hF
          cases hq9
          have hF := hZ
          clear hZ
          have hl := hlZ
          clear hlZ
          refine x_callP (V := va_rf) hF (fun t h => x_rV X hl (w_J2_get _ _ _ t h) ht_q10 rfl rfl cpx_J2_get q1010 rfl rfl rfl rfl (cat_room rfl) dX0_drives_42) (fun t11 hF => ?_)
          refine x_cast X hF rfl q1011 dX0_drives_45 (fun hF => ?_)
          refine xg_X0_153 X hF dX0_drives_48 (fun t12 hF => ?_)
          refine g_iconst K dX0_drives_51 lc_m1 ?_
          refine g_icmp_eq (tgt := 58) K hF dX0_drives_52 (by decide) (fun hF => ?_) (fun hF => ?_)
          · refine g_iconst K dX0_drives_58 lc_0 ?_
            refine g_istore (i := 4) K hl dX0_drives_59 rfl rfl (fun ls hl => ?_)
            exact L61  G _ _ _ _ _ ls hF ha (lq_sub hl rfl)
          · refine g_bipush K dX0_drives_55 lb_m2 ?_
            exact x_iretW X hF ha dX0_drives_57

theorem cpx_X1_left : cpV yX1_left cX1_left 3 (some .int) 0 := ⟨q1389, q1390, q146, q1391, by decide +kernel⟩
set_option maxHeartbeats 4000000 in
set_option maxRecDepth 100000 in
theorem w_X1_left {l : Launch} {D : va_G} {cx ro : Nat → Nat} {A : Nat → Prop} {TL SL : Nat} (G : Nat) (σ0 : XS) (th : Nat)  (r : Int32) (hF : X_X1_left G σ0 th = some r) : xMet l D cx ro A TL SL yX1_left cX1_left 3 (some .int) 3 false wx_X1_left [.ref th] σ0 (some (.int r)) σ0 := by
  refine x_of (l9 := [(0, some (.ref th))]) (by decide) (by exact Nat.le_of_ble_eq_true rfl) (by rfl) ?_
  intro p e s m args below meth c ls X K hnm hl hlm
  have B4 : ∀ (k4 : Int32 → Int32 → Option Int32) (hk4 : (∀ (x1 : Int32) (x2 : Int32) (ls : Array Slot), k4 x1 x2 = some r → lq ls 3 [(0, some (.ref th)), (1, some (.int x1)), (2, some (.int x2))] → ZX p l e 3 TL SL s m args below meth c D cx ro A false wx_X1_left σ0 (some (.int r)) σ0 σ0 (F0 m 4 ls []))) (x1 : Int32) (x2 : Int32) (ls : Array Slot), X_X1_left_B4 G σ0 th k4 x1 x2 = some r → lq ls 3 [(0, some (.ref th)), (1, some (.int x1)), (2, some (.int x2))] → ZX p l e 3 TL SL s m args below meth c D cx ro A false wx_X1_left σ0 (some (.int r)) σ0 σ0 (F0 m 4 ls []) := by
    intro k4 hk4 x1 x2 ls hF hl
    unfold X_X1_left_B4 at hF
    refine g_iload_n (i := 2) K hl dX1_left_4 rfl rfl ?_
    refine g_aload_n (i := 0) K hl dX1_left_5 rfl rfl ?_
    refine xg_X1_28 X hF dX1_left_6 (fun t1 hF => ?_)
    have hlZ := hl
    obtain ⟨q2, hq9, ht_q2, hZ⟩ := nnX_i hF
    cases hq9
    have hF := hZ
    clear hZ
    have hl := hlZ
    clear hlZ
    refine x_callP (V := Value.int) hF (fun t h => x_rV X hl (w_J2_size _ _  t h) ht_q2 rfl rfl cpx_J2_size q982 rfl rfl rfl rfl (cat_room rfl) dX1_left_9) (fun t3 hF => ?_)
    refine g_icmp_ge (tgt := 47) K hF dX1_left_12 (by decide) (fun hF => ?_) (fun hF => ?_)
    · refine g_iload_n (i := 1) K hl dX1_left_47 rfl rfl ?_
      exact x_iretP X hF agW.rf dX1_left_48
    · refine g_iload_n (i := 1) K hl dX1_left_15 rfl rfl ?_
      refine g_aload_n (i := 0) K hl dX1_left_16 rfl rfl ?_
      refine xg_X1_28 X hF dX1_left_17 (fun t4 hF => ?_)
      refine g_iload_n (i := 2) K hl dX1_left_20 rfl rfl ?_
      have hlZ := hl
      obtain ⟨q5, hq9, ht_q5, hZ⟩ := nnX_i hF
      cases hq9
      have hF := hZ
      clear hZ
      have hl := hlZ
      clear hlZ
      refine x_callP (V := va_rf) hF (fun t h => x_rV X hl (w_J2_get _ _ _ t h) ht_q5 rfl rfl cpx_J2_get q983 rfl rfl rfl rfl (cat_room rfl) dX1_left_21) (fun t6 hF => ?_)
      refine x_cast X hF rfl q984 dX1_left_24 (fun hF => ?_)
      refine xg_X1_73 X hF dX1_left_27 (fun t7 hF => ?_)
      refine g_iconst K dX1_left_30 lc_m1 ?_
      refine g_icmp_ne (tgt := 38) K hF dX1_left_31 (by decide) (fun hF => ?_) (fun hF => ?_)
      · refine g_iconst K dX1_left_38 lc_0 ?_
        refine g_iadd K dX1_left_39 ?_
        refine g_istore_n (i := 1) K hl dX1_left_40 rfl rfl rfl (fun ls hl => ?_)
        refine g_iinc (i := 2) K hl dX1_left_41 rfl lc_1 rfl rfl (fun ls hl => ?_)
        refine g_goto (tgt := 4) K dX1_left_44 (by decide) ?_
        exact hk4 _ _ ls hF (lq_sub hl rfl)
      · refine g_iconst K dX1_left_34 lc_1 ?_
        refine g_goto (tgt := 39) K dX1_left_35 (by decide) ?_
        refine g_iadd K dX1_left_39 ?_
        refine g_istore_n (i := 1) K hl dX1_left_40 rfl rfl rfl (fun ls hl => ?_)
        refine g_iinc (i := 2) K hl dX1_left_41 rfl lc_1 rfl rfl (fun ls hl => ?_)
        refine g_goto (tgt := 4) K dX1_left_44 (by decide) ?_
        exact hk4 _ _ ls hF (lq_sub hl rfl)
  have L4 : ∀ (n : Nat) (x1 : Int32) (x2 : Int32) (ls : Array Slot), X_X1_left_L4 G σ0 th  n x1 x2 = some r → lq ls 3 [(0, some (.ref th)), (1, some (.int x1)), (2, some (.int x2))] → ZX p l e 3 TL SL s m args below meth c D cx ro A false wx_X1_left σ0 (some (.int r)) σ0 σ0 (F0 m 4 ls []) := by
    intro  n
    induction n with
    | zero => intro x1 x2 ls hF; exact absurd hF (fun h => by cases h)
    | succ n ih => intro x1 x2 ls hF hl; exact B4  _ ih _ _ ls hF hl
  unfold X_X1_left at hF
  refine g_iconst K dX1_left_0 lc_0 ?_
  refine g_istore_n (i := 1) K hl dX1_left_1 rfl rfl rfl (fun ls hl => ?_)
  refine g_iconst K dX1_left_2 lc_0 ?_
  refine g_istore_n (i := 2) K hl dX1_left_3 rfl rfl rfl (fun ls hl => ?_)
  exact L4  G _ _ ls hF (lq_sub hl rfl)

theorem cpx_X0_goneBy : cpV yX0_goneBy cX0_goneBy 5 (some .int) 2 := ⟨q1386, qs56, q145, q1387, by decide +kernel⟩
set_option maxHeartbeats 4000000 in
set_option maxRecDepth 100000 in
theorem w_X0_goneBy {l : Launch} {D : va_G} {cx ro : Nat → Nat} {A : Nat → Prop} {TL SL : Nat} (G : Nat) (σ0 : XS) (th : Nat) (a0 : Int32) (a1 : Int32) (r : (Int32 × XS)) (hF : X_X0_goneBy ro G σ0 th a0 a1 = some r) : xMet l D cx ro A TL SL yX0_goneBy cX0_goneBy 5 (some .int) 197 false wx_X0_goneBy [.ref th, .int a0, .int a1] σ0 (some (.int r.1)) r.2 := by
  refine x_of (l9 := [(0, some (.ref th)), (1, some (.int a0)), (2, some (.int a1))]) (by decide) (by exact Nat.le_of_ble_eq_true rfl) (by rfl) ?_
  intro p e s m args below meth c ls X K hnm hl hlm
  have L124 : ∀ (σ : XS) (x3 : Int32) (ls : Array Slot), X_X0_goneBy_L124 ro G th  σ x3 = some r → agW false wx_X0_goneBy σ0 σ → lq ls 5 [(0, some (.ref th)), (3, some (.int x3))] → ZX p l e 197 TL SL s m args below meth c D cx ro A false wx_X0_goneBy σ0 (some (.int r.1)) r.2 σ (F0 m 124 ls []) := by
    intro  σ x3 ls hF ha hl
    unfold X_X0_goneBy_L124 at hF
    refine g_aload_n (i := 0) K hl dX0_goneBy_124 rfl rfl ?_
    refine xg_X0_12 X hF dX0_goneBy_125 (fun t1 hF => ?_)
    refine g_aload_n (i := 0) K hl dX0_goneBy_128 rfl rfl ?_
    refine xg_X0_34 X hF dX0_goneBy_129 (fun t2 hF => ?_)
    refine g_iconst K dX0_goneBy_132 lc_0 ?_
    have hlZ := hl
    obtain ⟨q3, hq9, ht_q3, hZ⟩ := nnX_i hF
    cases hq9
    have hF := hZ
    clear hZ
    have hl := hlZ
    clear hlZ
    refine x_callV hF ha rfl (fun t h => x_rV X hl (w_X1_bringAt G _ _ _ _ t h) ht_q3 rfl rfl cpx_X1_bringAt q1307 rfl rfl rfl rfl (cat_room rfl) dX0_goneBy_133) (fun σ4 hF ha => ?_)
    refine g_iload_n (i := 3) K hl dX0_goneBy_136 rfl rfl ?_
    exact x_iretW X hF ha dX0_goneBy_137
  have B84 : ∀ (k63 : XS → Int32 → Int32 → Option (Int32 × XS)) (hk63 : (∀ (σ : XS) (x2 : Int32) (x3 : Int32) (ls : Array Slot), k63 σ x2 x3 = some r → agW false wx_X0_goneBy σ0 σ → lq ls 5 [(0, some (.ref th)), (2, some (.int x2)), (3, some (.int x3))] → ZX p l e 197 TL SL s m args below meth c D cx ro A false wx_X0_goneBy σ0 (some (.int r.1)) r.2 σ (F0 m 63 ls []))) (k84 : XS → Int32 → Int32 → Int32 → Option (Int32 × XS)) (hk84 : (∀ (σ : XS) (x2 : Int32) (x3 : Int32) (x4 : Int32) (ls : Array Slot), k84 σ x2 x3 x4 = some r → agW false wx_X0_goneBy σ0 σ → lq ls 5 [(0, some (.ref th)), (2, some (.int x2)), (3, some (.int x3)), (4, some (.int x4))] → ZX p l e 197 TL SL s m args below meth c D cx ro A false wx_X0_goneBy σ0 (some (.int r.1)) r.2 σ (F0 m 84 ls []))) (σ : XS) (x2 : Int32) (x3 : Int32) (x4 : Int32) (ls : Array Slot), X_X0_goneBy_B84 ro G th k63 k84 σ x2 x3 x4 = some r → agW false wx_X0_goneBy σ0 σ → lq ls 5 [(0, some (.ref th)), (2, some (.int x2)), (3, some (.int x3)), (4, some (.int x4))] → ZX p l e 197 TL SL s m args below meth c D cx ro A false wx_X0_goneBy σ0 (some (.int r.1)) r.2 σ (F0 m 84 ls []) := by
    intro k63 hk63 k84 hk84 σ x2 x3 x4 ls hF ha hl
    unfold X_X0_goneBy_B84 at hF
    refine g_iload (i := 4) K hl dX0_goneBy_84 rfl ?_
    refine g_aload_n (i := 0) K hl dX0_goneBy_86 rfl rfl ?_
    refine xg_X0_12 X hF dX0_goneBy_87 (fun t1 hF => ?_)
    refine xg_X0_94 X hF dX0_goneBy_90 (fun t2 hF => ?_)
    have hlZ := hl
    obtain ⟨q3, hq9, ht_q3, hZ⟩ := nnX_i hF
    cases hq9
    have hF := hZ
    clear hZ
    have hl := hlZ
    clear hlZ
    refine x_callP (V := Value.int) hF (fun t h => x_rV X hl (w_J2_size _ _  t h) ht_q3 rfl rfl cpx_J2_size q994 rfl rfl rfl rfl (cat_room rfl) dX0_goneBy_93) (fun t4 hF => ?_)
    refine g_icmp_ge (tgt := 121) K hF dX0_goneBy_96 (by decide) (fun hF => ?_) (fun hF => ?_)
    · refine g_goto (tgt := 63) K dX0_goneBy_121 (by decide) ?_
      exact hk63 _ _ _ ls hF ha (lq_sub hl rfl)
    · refine g_aload_n (i := 0) K hl dX0_goneBy_99 rfl rfl ?_
      refine xg_X0_12 X hF dX0_goneBy_100 (fun t5 hF => ?_)
      refine g_iload (i := 4) K hl dX0_goneBy_103 rfl ?_
      refine g_aload_n (i := 0) K hl dX0_goneBy_105 rfl rfl ?_
      refine g_iload (i := 4) K hl dX0_goneBy_106 rfl ?_
      have hlZ := hl
      obtain ⟨q6, hq9, ht_q6, hZ⟩ := nnX_i hF
      cases hq9
      have hF := hZ
      clear hZ
      have hl := hlZ
      clear hlZ
      refine x_callP (V := va_rf) hF (fun t h => x_rV X hl (w_X0_ruleOf _ _ _ t h) ht_q6 rfl rfl cpx_X0_ruleOf q1134 rfl rfl rfl rfl (cat_room rfl) dX0_goneBy_108) (fun t7 hF => ?_)
      have hlZ := hl
      obtain ⟨q8, hq9, ht_q8, hZ⟩ := nnX_i hF
      cases hq9
      have hF := hZ
      clear hZ
      have hl := hlZ
      clear hlZ
      refine x_callW (V := Value.int) hF ha rfl (fun t h => x_rV X hl (w_X1_turn G _ _ _ _ t h) ht_q8 rfl rfl cpx_X1_turn q1268 rfl rfl rfl rfl (cat_room rfl) dX0_goneBy_111) (fun t9 σ10 hF ha => ?_)
      refine g_pop K dX0_goneBy_114 rfl ?_
      refine g_iinc (i := 4) K hl dX0_goneBy_115 rfl lc_1 rfl rfl (fun ls hl => ?_)
      refine g_goto (tgt := 84) K dX0_goneBy_118 (by decide) ?_
      exact hk84 _ _ _ _ ls hF ha (lq_sub hl rfl)
  have L84 : ∀ (k63 : XS → Int32 → Int32 → Option (Int32 × XS)) (hk63 : (∀ (σ : XS) (x2 : Int32) (x3 : Int32) (ls : Array Slot), k63 σ x2 x3 = some r → agW false wx_X0_goneBy σ0 σ → lq ls 5 [(0, some (.ref th)), (2, some (.int x2)), (3, some (.int x3))] → ZX p l e 197 TL SL s m args below meth c D cx ro A false wx_X0_goneBy σ0 (some (.int r.1)) r.2 σ (F0 m 63 ls []))) (n : Nat) (σ : XS) (x2 : Int32) (x3 : Int32) (x4 : Int32) (ls : Array Slot), X_X0_goneBy_L84 ro G th k63 n σ x2 x3 x4 = some r → agW false wx_X0_goneBy σ0 σ → lq ls 5 [(0, some (.ref th)), (2, some (.int x2)), (3, some (.int x3)), (4, some (.int x4))] → ZX p l e 197 TL SL s m args below meth c D cx ro A false wx_X0_goneBy σ0 (some (.int r.1)) r.2 σ (F0 m 84 ls []) := by
    intro k63 hk63 n
    induction n with
    | zero => intro σ x2 x3 x4 ls hF; exact absurd hF (fun h => by cases h)
    | succ n ih => intro σ x2 x3 x4 ls hF ha hl; exact B84 k63 hk63 _ ih _ _ _ _ ls hF ha hl
  have B63 : ∀ (k63 : XS → Int32 → Int32 → Option (Int32 × XS)) (hk63 : (∀ (σ : XS) (x2 : Int32) (x3 : Int32) (ls : Array Slot), k63 σ x2 x3 = some r → agW false wx_X0_goneBy σ0 σ → lq ls 5 [(0, some (.ref th)), (2, some (.int x2)), (3, some (.int x3))] → ZX p l e 197 TL SL s m args below meth c D cx ro A false wx_X0_goneBy σ0 (some (.int r.1)) r.2 σ (F0 m 63 ls []))) (σ : XS) (x2 : Int32) (x3 : Int32) (ls : Array Slot), X_X0_goneBy_B63 ro G th k63 σ x2 x3 = some r → agW false wx_X0_goneBy σ0 σ → lq ls 5 [(0, some (.ref th)), (2, some (.int x2)), (3, some (.int x3))] → ZX p l e 197 TL SL s m args below meth c D cx ro A false wx_X0_goneBy σ0 (some (.int r.1)) r.2 σ (F0 m 63 ls []) := by
    intro k63 hk63 σ x2 x3 ls hF ha hl
    unfold X_X0_goneBy_B63 at hF
    refine g_iload_n (i := 3) K hl dX0_goneBy_63 rfl rfl ?_
    refine g_iload_n (i := 2) K hl dX0_goneBy_64 rfl rfl ?_
    refine g_icmp_gt (tgt := 124) K hF dX0_goneBy_65 (by decide) (fun hF => ?_) (fun hF => ?_)
    · exact L124  _ _ ls hF ha (lq_sub hl rfl)
    · refine g_aload_n (i := 0) K hl dX0_goneBy_68 rfl rfl ?_
      refine xg_X0_12 X hF dX0_goneBy_69 (fun t1 hF => ?_)
      have hlZ := hl
      obtain ⟨q2, hq9, ht_q2, hZ⟩ := nnX_i hF
      cases hq9
      have hF := hZ
      clear hZ
      have hl := hlZ
      clear hlZ
      refine x_callP (V := Value.int) hF (fun t h => x_rV X hl (w_X1_left G _ _  t h) ht_q2 rfl rfl cpx_X1_left q1388 rfl rfl rfl rfl (cat_room rfl) dX0_goneBy_72) (fun t3 hF => ?_)
      refine g_if_le (tgt := 124) K hF dX0_goneBy_75 (by decide) (fun hF => ?_) (fun hF => ?_)
      · exact L124  _ _ ls hF ha (lq_sub hl rfl)
      · refine g_iinc (i := 3) K hl dX0_goneBy_78 rfl lc_1 rfl rfl (fun ls hl => ?_)
        refine g_iconst K dX0_goneBy_81 lc_0 ?_
        refine g_istore (i := 4) K hl dX0_goneBy_82 rfl rfl (fun ls hl => ?_)
        exact L84 k63 hk63 G _ _ _ _ ls hF ha (lq_sub hl rfl)
  have L63 : ∀ (n : Nat) (σ : XS) (x2 : Int32) (x3 : Int32) (ls : Array Slot), X_X0_goneBy_L63 ro G th  n σ x2 x3 = some r → agW false wx_X0_goneBy σ0 σ → lq ls 5 [(0, some (.ref th)), (2, some (.int x2)), (3, some (.int x3))] → ZX p l e 197 TL SL s m args below meth c D cx ro A false wx_X0_goneBy σ0 (some (.int r.1)) r.2 σ (F0 m 63 ls []) := by
    intro  n
    induction n with
    | zero => intro σ x2 x3 ls hF; exact absurd hF (fun h => by cases h)
    | succ n ih => intro σ x2 x3 ls hF ha hl; exact B63  _ ih _ _ _ ls hF ha hl
  have B14 : ∀ (k14 : XS → Int32 → Int32 → Int32 → Option (Int32 × XS)) (hk14 : (∀ (σ : XS) (x1 : Int32) (x2 : Int32) (x3 : Int32) (ls : Array Slot), k14 σ x1 x2 x3 = some r → agW false wx_X0_goneBy σ0 σ → lq ls 5 [(0, some (.ref th)), (1, some (.int x1)), (2, some (.int x2)), (3, some (.int x3))] → ZX p l e 197 TL SL s m args below meth c D cx ro A false wx_X0_goneBy σ0 (some (.int r.1)) r.2 σ (F0 m 14 ls []))) (σ : XS) (x1 : Int32) (x2 : Int32) (x3 : Int32) (ls : Array Slot), X_X0_goneBy_B14 ro G th k14 σ x1 x2 x3 = some r → agW false wx_X0_goneBy σ0 σ → lq ls 5 [(0, some (.ref th)), (1, some (.int x1)), (2, some (.int x2)), (3, some (.int x3))] → ZX p l e 197 TL SL s m args below meth c D cx ro A false wx_X0_goneBy σ0 (some (.int r.1)) r.2 σ (F0 m 14 ls []) := by
    intro k14 hk14 σ x1 x2 x3 ls hF ha hl
    unfold X_X0_goneBy_B14 at hF
    refine g_iload_n (i := 3) K hl dX0_goneBy_14 rfl rfl ?_
    refine g_aload_n (i := 0) K hl dX0_goneBy_15 rfl rfl ?_
    refine xg_X0_12 X hF dX0_goneBy_16 (fun t1 hF => ?_)
    refine xg_X0_87 X hF dX0_goneBy_19 (fun t2 hF => ?_)
    have hlZ := hl
    obtain ⟨q3, hq9, ht_q3, hZ⟩ := nnX_i hF
    cases hq9
    have hF := hZ
    clear hZ
    have hl := hlZ
    clear hlZ
    refine x_callP (V := Value.int) hF (fun t h => x_rV X hl (w_J2_size _ _  t h) ht_q3 rfl rfl cpx_J2_size q994 rfl rfl rfl rfl (cat_room rfl) dX0_goneBy_22) (fun t4 hF => ?_)
    refine g_icmp_ge (tgt := 61) K hF dX0_goneBy_25 (by decide) (fun hF => ?_) (fun hF => ?_)
    · refine g_iconst K dX0_goneBy_61 lc_0 ?_
      refine g_istore_n (i := 3) K hl dX0_goneBy_62 rfl rfl rfl (fun ls hl => ?_)
      exact L63  G _ _ _ ls hF ha (lq_sub hl rfl)
    · refine g_iload_n (i := 1) K hl dX0_goneBy_28 rfl rfl ?_
      refine g_iload_n (i := 3) K hl dX0_goneBy_29 rfl rfl ?_
      refine g_ishr K dX0_goneBy_30 ?_
      refine g_iconst K dX0_goneBy_31 lc_1 ?_
      refine g_iand K dX0_goneBy_32 ?_
      refine g_if_ne (tgt := 55) K hF dX0_goneBy_33 (by decide) (fun hF => ?_) (fun hF => ?_)
      · refine g_iinc (i := 3) K hl dX0_goneBy_55 rfl lc_1 rfl rfl (fun ls hl => ?_)
        refine g_goto (tgt := 14) K dX0_goneBy_58 (by decide) ?_
        exact hk14 _ _ _ _ ls hF ha (lq_sub hl rfl)
      · refine g_aload_n (i := 0) K hl dX0_goneBy_36 rfl rfl ?_
        refine xg_X0_12 X hF dX0_goneBy_37 (fun t5 hF => ?_)
        refine xg_X0_87 X hF dX0_goneBy_40 (fun t6 hF => ?_)
        refine g_iload_n (i := 3) K hl dX0_goneBy_43 rfl rfl ?_
        have hlZ := hl
        obtain ⟨q7, hq9, ht_q7, hZ⟩ := nnX_i hF
        cases hq9
        have hF := hZ
        clear hZ
        have hl := hlZ
        clear hlZ
        refine x_callP (V := va_rf) hF (fun t h => x_rV X hl (w_J2_get _ _ _ t h) ht_q7 rfl rfl cpx_J2_get q1010 rfl rfl rfl rfl (cat_room rfl) dX0_goneBy_44) (fun t8 hF => ?_)
        refine x_cast X hF rfl q1011 dX0_goneBy_47 (fun hF => ?_)
        refine g_bipush K dX0_goneBy_50 lb_9 ?_
        refine xp_X0_153 X hF ha rfl dX0_goneBy_52 (fun σ9 hF ha => ?_)
        refine g_iinc (i := 3) K hl dX0_goneBy_55 rfl lc_1 rfl rfl (fun ls hl => ?_)
        refine g_goto (tgt := 14) K dX0_goneBy_58 (by decide) ?_
        exact hk14 _ _ _ _ ls hF ha (lq_sub hl rfl)
  have L14 : ∀ (n : Nat) (σ : XS) (x1 : Int32) (x2 : Int32) (x3 : Int32) (ls : Array Slot), X_X0_goneBy_L14 ro G th  n σ x1 x2 x3 = some r → agW false wx_X0_goneBy σ0 σ → lq ls 5 [(0, some (.ref th)), (1, some (.int x1)), (2, some (.int x2)), (3, some (.int x3))] → ZX p l e 197 TL SL s m args below meth c D cx ro A false wx_X0_goneBy σ0 (some (.int r.1)) r.2 σ (F0 m 14 ls []) := by
    intro  n
    induction n with
    | zero => intro σ x1 x2 x3 ls hF; exact absurd hF (fun h => by cases h)
    | succ n ih => intro σ x1 x2 x3 ls hF ha hl; exact B14  _ ih _ _ _ _ ls hF ha hl
  have ha : agW false wx_X0_goneBy σ0 σ0 := agW.rf
  unfold X_X0_goneBy at hF
  refine g_aload_n (i := 0) K hl dX0_goneBy_0 rfl rfl ?_
  refine xg_X0_12 X hF dX0_goneBy_1 (fun t1 hF => ?_)
  refine g_aload_n (i := 0) K hl dX0_goneBy_4 rfl rfl ?_
  refine xg_X0_34 X hF dX0_goneBy_5 (fun t2 hF => ?_)
  refine g_iconst K dX0_goneBy_8 lc_0 ?_
  have hlZ := hl
  obtain ⟨q3, hq9, ht_q3, hZ⟩ := nnX_i hF
  cases hq9
  have hF := hZ
  clear hZ
  have hl := hlZ
  clear hlZ
  refine x_callV hF ha rfl (fun t h => x_rV X hl (w_X1_keepAt G _ _ _ _ t h) ht_q3 rfl rfl cpx_X1_keepAt q1303 rfl rfl rfl rfl (cat_room rfl) dX0_goneBy_9) (fun σ4 hF ha => ?_)
  refine g_iconst K dX0_goneBy_12 lc_0 ?_
  refine g_istore_n (i := 3) K hl dX0_goneBy_13 rfl rfl rfl (fun ls hl => ?_)
  exact L14  G _ _ _ _ ls hF ha (lq_sub hl rfl)

theorem cpx_X0_inTub : cpV yX0_inTub cX0_inTub 3 (some .int) 0 := ⟨q1382, qs55, q145, q1383, by decide +kernel⟩
set_option maxHeartbeats 4000000 in
set_option maxRecDepth 100000 in
theorem w_X0_inTub {l : Launch} {D : va_G} {cx ro : Nat → Nat} {A : Nat → Prop} {TL SL : Nat} (G : Nat) (σ0 : XS) (th : Nat)  (r : Int32) (hF : X_X0_inTub G σ0 th = some r) : xMet l D cx ro A TL SL yX0_inTub cX0_inTub 3 (some .int) 3 false wx_X0_inTub [.ref th] σ0 (some (.int r)) σ0 := by
  refine x_of (l9 := [(0, some (.ref th))]) (by decide) (by exact Nat.le_of_ble_eq_true rfl) (by rfl) ?_
  intro p e s m args below meth c ls X K hnm hl hlm
  have L47 : ∀ (k4 : Int32 → Int32 → Option Int32) (hk4 : (∀ (x1 : Int32) (x2 : Int32) (ls : Array Slot), k4 x1 x2 = some r → lq ls 3 [(0, some (.ref th)), (1, some (.int x1)), (2, some (.int x2))] → ZX p l e 3 TL SL s m args below meth c D cx ro A false wx_X0_inTub σ0 (some (.int r)) σ0 σ0 (F0 m 4 ls []))) (x2 : Int32) (s0 : Int32) (s1 : Int32) (ls : Array Slot), X_X0_inTub_L47 G σ0 th k4 x2 s0 s1 = some r → lq ls 3 [(0, some (.ref th)), (2, some (.int x2))] → ZX p l e 3 TL SL s m args below meth c D cx ro A false wx_X0_inTub σ0 (some (.int r)) σ0 σ0 (F0 m 47 ls [.int s1, .int s0]) := by
    intro k4 hk4 x2 s0 s1 ls hF hl
    unfold X_X0_inTub_L47 at hF
    refine g_ior K dX0_inTub_47 ?_
    refine g_istore_n (i := 1) K hl dX0_inTub_48 rfl rfl rfl (fun ls hl => ?_)
    refine g_iinc (i := 2) K hl dX0_inTub_49 rfl lc_1 rfl rfl (fun ls hl => ?_)
    refine g_goto (tgt := 4) K dX0_inTub_52 (by decide) ?_
    exact hk4 _ _ ls hF (lq_sub hl rfl)
  have B4 : ∀ (k4 : Int32 → Int32 → Option Int32) (hk4 : (∀ (x1 : Int32) (x2 : Int32) (ls : Array Slot), k4 x1 x2 = some r → lq ls 3 [(0, some (.ref th)), (1, some (.int x1)), (2, some (.int x2))] → ZX p l e 3 TL SL s m args below meth c D cx ro A false wx_X0_inTub σ0 (some (.int r)) σ0 σ0 (F0 m 4 ls []))) (x1 : Int32) (x2 : Int32) (ls : Array Slot), X_X0_inTub_B4 G σ0 th k4 x1 x2 = some r → lq ls 3 [(0, some (.ref th)), (1, some (.int x1)), (2, some (.int x2))] → ZX p l e 3 TL SL s m args below meth c D cx ro A false wx_X0_inTub σ0 (some (.int r)) σ0 σ0 (F0 m 4 ls []) := by
    intro k4 hk4 x1 x2 ls hF hl
    unfold X_X0_inTub_B4 at hF
    refine g_iload_n (i := 2) K hl dX0_inTub_4 rfl rfl ?_
    refine g_aload_n (i := 0) K hl dX0_inTub_5 rfl rfl ?_
    refine xg_X0_12 X hF dX0_inTub_6 (fun t1 hF => ?_)
    refine xg_X0_87 X hF dX0_inTub_9 (fun t2 hF => ?_)
    have hlZ := hl
    obtain ⟨q3, hq9, ht_q3, hZ⟩ := nnX_i hF
    cases hq9
    have hF := hZ
    clear hZ
    have hl := hlZ
    clear hlZ
    refine x_callP (V := Value.int) hF (fun t h => x_rV X hl (w_J2_size _ _  t h) ht_q3 rfl rfl cpx_J2_size q994 rfl rfl rfl rfl (cat_room rfl) dX0_inTub_12) (fun t4 hF => ?_)
    refine g_icmp_ge (tgt := 55) K hF dX0_inTub_15 (by decide) (fun hF => ?_) (fun hF => ?_)
    · refine g_iload_n (i := 1) K hl dX0_inTub_55 rfl rfl ?_
      exact x_iretP X hF agW.rf dX0_inTub_56
    · refine g_iload_n (i := 1) K hl dX0_inTub_18 rfl rfl ?_
      refine g_aload_n (i := 0) K hl dX0_inTub_19 rfl rfl ?_
      refine xg_X0_12 X hF dX0_inTub_20 (fun t5 hF => ?_)
      refine xg_X0_87 X hF dX0_inTub_23 (fun t6 hF => ?_)
      refine g_iload_n (i := 2) K hl dX0_inTub_26 rfl rfl ?_
      have hlZ := hl
      obtain ⟨q7, hq9, ht_q7, hZ⟩ := nnX_i hF
      cases hq9
      have hF := hZ
      clear hZ
      have hl := hlZ
      clear hlZ
      refine x_callP (V := va_rf) hF (fun t h => x_rV X hl (w_J2_get _ _ _ t h) ht_q7 rfl rfl cpx_J2_get q1010 rfl rfl rfl rfl (cat_room rfl) dX0_inTub_27) (fun t8 hF => ?_)
      refine x_cast X hF rfl q1011 dX0_inTub_30 (fun hF => ?_)
      refine xg_X0_153 X hF dX0_inTub_33 (fun t9 hF => ?_)
      refine g_iconst K dX0_inTub_36 lc_m1 ?_
      refine g_icmp_ne (tgt := 46) K hF dX0_inTub_37 (by decide) (fun hF => ?_) (fun hF => ?_)
      · refine g_iconst K dX0_inTub_46 lc_0 ?_
        exact L47 k4 hk4 _ _ _ ls hF (lq_sub hl rfl)
      · refine g_iconst K dX0_inTub_40 lc_1 ?_
        refine g_iload_n (i := 2) K hl dX0_inTub_41 rfl rfl ?_
        refine g_ishl K dX0_inTub_42 ?_
        refine g_goto (tgt := 47) K dX0_inTub_43 (by decide) ?_
        exact L47 k4 hk4 _ _ _ ls hF (lq_sub hl rfl)
  have L4 : ∀ (n : Nat) (x1 : Int32) (x2 : Int32) (ls : Array Slot), X_X0_inTub_L4 G σ0 th  n x1 x2 = some r → lq ls 3 [(0, some (.ref th)), (1, some (.int x1)), (2, some (.int x2))] → ZX p l e 3 TL SL s m args below meth c D cx ro A false wx_X0_inTub σ0 (some (.int r)) σ0 σ0 (F0 m 4 ls []) := by
    intro  n
    induction n with
    | zero => intro x1 x2 ls hF; exact absurd hF (fun h => by cases h)
    | succ n ih => intro x1 x2 ls hF hl; exact B4  _ ih _ _ ls hF hl
  unfold X_X0_inTub at hF
  refine g_iconst K dX0_inTub_0 lc_0 ?_
  refine g_istore_n (i := 1) K hl dX0_inTub_1 rfl rfl rfl (fun ls hl => ?_)
  refine g_iconst K dX0_inTub_2 lc_0 ?_
  refine g_istore_n (i := 2) K hl dX0_inTub_3 rfl rfl rfl (fun ls hl => ?_)
  exact L4  G _ _ ls hF (lq_sub hl rfl)

theorem cpx_X0_gone : cpV yX0_gone cX0_gone 3 (some .int) 1 := ⟨q1377, q1378, q145, q1379, by decide +kernel⟩
set_option maxHeartbeats 4000000 in
set_option maxRecDepth 100000 in
theorem w_X0_gone {l : Launch} {D : va_G} {cx ro : Nat → Nat} {A : Nat → Prop} {TL SL : Nat} (G : Nat) (σ0 : XS) (th : Nat) (a0 : Int32) (r : (Int32 × XS)) (hF : X_X0_gone ro G σ0 th a0 = some r) : xMet l D cx ro A TL SL yX0_gone cX0_gone 3 (some .int) 198 false wx_X0_gone [.ref th, .int a0] σ0 (some (.int r.1)) r.2 := by
  refine x_of (l9 := [(0, some (.ref th)), (1, some (.int a0))]) (by decide) (by exact Nat.le_of_ble_eq_true rfl) (by rfl) ?_
  intro p e s m args below meth c ls X K hnm hl hlm
  have ha : agW false wx_X0_gone σ0 σ0 := agW.rf
  unfold X_X0_gone at hF
  refine g_iload_n (i := 1) K hl dX0_gone_0 rfl rfl ?_
  refine g_if_lt (tgt := 15) K hF dX0_gone_1 (by decide) (fun hF => ?_) (fun hF => ?_)
  · refine g_bipush K dX0_gone_15 lb_m2 ?_
    exact x_iretW X hF ha dX0_gone_17
  · refine g_iload_n (i := 1) K hl dX0_gone_4 rfl rfl ?_
    refine g_aload_n (i := 0) K hl dX0_gone_5 rfl rfl ?_
    have hlZ := hl
    obtain ⟨q1, hq9, ht_q1, hZ⟩ := nnX_i hF
    cases hq9
    have hF := hZ
    clear hZ
    have hl := hlZ
    clear hlZ
    refine x_callP (V := Value.int) hF (fun t h => x_rV X hl (w_X0_inTub G _ _  t h) ht_q1 rfl rfl cpx_X0_inTub q1380 rfl rfl rfl rfl (cat_room rfl) dX0_gone_6) (fun t2 hF => ?_)
    refine g_iconst K dX0_gone_9 lc_m1 ?_
    refine g_ixor K dX0_gone_10 ?_
    refine g_iand K dX0_gone_11 ?_
    refine g_if_eq (tgt := 18) K hF dX0_gone_12 (by decide) (fun hF => ?_) (fun hF => ?_)
    · refine g_aload_n (i := 0) K hl dX0_gone_18 rfl rfl ?_
      refine g_iload_n (i := 1) K hl dX0_gone_19 rfl rfl ?_
      refine g_bipush K dX0_gone_20 lb_60 ?_
      have hlZ := hl
      obtain ⟨q3, hq9, ht_q3, hZ⟩ := nnX_i hF
      cases hq9
      have hF := hZ
      clear hZ
      have hl := hlZ
      clear hlZ
      refine x_callW (V := Value.int) hF ha rfl (fun t h => x_rV X hl (w_X0_goneBy G _ _ _ _ t h) ht_q3 rfl rfl cpx_X0_goneBy q1384 rfl rfl rfl rfl (cat_room rfl) dX0_gone_22) (fun t4 σ5 hF ha => ?_)
      refine g_istore_n (i := 2) K hl dX0_gone_25 rfl rfl rfl (fun ls hl => ?_)
      refine g_iload_n (i := 2) K hl dX0_gone_26 rfl rfl ?_
      refine g_bipush K dX0_gone_27 lb_60 ?_
      refine g_icmp_le (tgt := 36) K hF dX0_gone_29 (by decide) (fun hF => ?_) (fun hF => ?_)
      · refine g_iload_n (i := 2) K hl dX0_gone_36 rfl rfl ?_
        exact x_iretW X hF ha dX0_gone_37
      · refine g_iconst K dX0_gone_32 lc_m1 ?_
        refine g_goto (tgt := 37) K dX0_gone_33 (by decide) ?_
        exact x_iretW X hF ha dX0_gone_37
    · refine g_bipush K dX0_gone_15 lb_m2 ?_
      exact x_iretW X hF ha dX0_gone_17

theorem cpx_J13_bitCount : cpS yJ13_bitCount cJ13_bitCount 1 (some .int) 1 := ⟨q1397, q174, q1398, by decide +kernel⟩
set_option maxHeartbeats 4000000 in
set_option maxRecDepth 100000 in
theorem w_J13_bitCount {l : Launch} {D : va_G} {cx ro : Nat → Nat} {A : Nat → Prop} {TL SL : Nat}  (σ0 : XS) (a0 : Int32) (r : Int32) (hF : X_J13_bitCount σ0 a0 = some r) : xMet l D cx ro A TL SL yJ13_bitCount cJ13_bitCount 1 (some .int) 0 false wx_J13_bitCount [.int a0] σ0 (some (.int r)) σ0 := by
  refine x_of (l9 := [(0, some (.int a0))]) (by decide) (by exact Nat.le_of_ble_eq_true rfl) (by rfl) ?_
  intro p e s m args below meth c ls X K hnm hl hlm
  unfold X_J13_bitCount at hF
  refine g_iload_n (i := 0) K hl dJ13_bitCount_0 rfl rfl ?_
  refine g_iload_n (i := 0) K hl dJ13_bitCount_1 rfl rfl ?_
  refine g_iconst K dJ13_bitCount_2 lc_1 ?_
  refine g_iushr K dJ13_bitCount_3 ?_
  refine g_ldcw K dJ13_bitCount_4 q1399 ?_
  refine g_iand K dJ13_bitCount_7 ?_
  refine g_isub K dJ13_bitCount_8 ?_
  refine g_istore_n (i := 0) K hl dJ13_bitCount_9 rfl rfl rfl (fun ls hl => ?_)
  refine g_iload_n (i := 0) K hl dJ13_bitCount_10 rfl rfl ?_
  refine g_ldcw K dJ13_bitCount_11 q1400 ?_
  refine g_iand K dJ13_bitCount_14 ?_
  refine g_iload_n (i := 0) K hl dJ13_bitCount_15 rfl rfl ?_
  refine g_iconst K dJ13_bitCount_16 lc_2 ?_
  refine g_iushr K dJ13_bitCount_17 ?_
  refine g_ldcw K dJ13_bitCount_18 q1400 ?_
  refine g_iand K dJ13_bitCount_21 ?_
  refine g_iadd K dJ13_bitCount_22 ?_
  refine g_istore_n (i := 0) K hl dJ13_bitCount_23 rfl rfl rfl (fun ls hl => ?_)
  refine g_iload_n (i := 0) K hl dJ13_bitCount_24 rfl rfl ?_
  refine g_iload_n (i := 0) K hl dJ13_bitCount_25 rfl rfl ?_
  refine g_iconst K dJ13_bitCount_26 lc_4 ?_
  refine g_iushr K dJ13_bitCount_27 ?_
  refine g_iadd K dJ13_bitCount_28 ?_
  refine g_ldcw K dJ13_bitCount_29 q1401 ?_
  refine g_iand K dJ13_bitCount_32 ?_
  refine g_istore_n (i := 0) K hl dJ13_bitCount_33 rfl rfl rfl (fun ls hl => ?_)
  refine g_iload_n (i := 0) K hl dJ13_bitCount_34 rfl rfl ?_
  refine g_iload_n (i := 0) K hl dJ13_bitCount_35 rfl rfl ?_
  refine g_bipush K dJ13_bitCount_36 lb_8 ?_
  refine g_iushr K dJ13_bitCount_38 ?_
  refine g_iadd K dJ13_bitCount_39 ?_
  refine g_istore_n (i := 0) K hl dJ13_bitCount_40 rfl rfl rfl (fun ls hl => ?_)
  refine g_iload_n (i := 0) K hl dJ13_bitCount_41 rfl rfl ?_
  refine g_iload_n (i := 0) K hl dJ13_bitCount_42 rfl rfl ?_
  refine g_bipush K dJ13_bitCount_43 lb_16 ?_
  refine g_iushr K dJ13_bitCount_45 ?_
  refine g_iadd K dJ13_bitCount_46 ?_
  refine g_istore_n (i := 0) K hl dJ13_bitCount_47 rfl rfl rfl (fun ls hl => ?_)
  refine g_iload_n (i := 0) K hl dJ13_bitCount_48 rfl rfl ?_
  refine g_bipush K dJ13_bitCount_49 lb_63 ?_
  refine g_iand K dJ13_bitCount_51 ?_
  exact x_iretP X hF agW.rf dJ13_bitCount_52

theorem cpx_X0_provide : cpV yX0_provide cX0_provide 6 (some .int) 2 := ⟨q1393, q1394, q145, q1395, by decide +kernel⟩
set_option maxHeartbeats 4000000 in
set_option maxRecDepth 100000 in
theorem w_X0_provide {l : Launch} {D : va_G} {cx ro : Nat → Nat} {A : Nat → Prop} {TL SL : Nat} (G : Nat) (σ0 : XS) (th : Nat) (a0 : Int32) (a1 : Int32) (r : (Int32 × XS)) (hF : X_X0_provide ro G σ0 th a0 a1 = some r) : xMet l D cx ro A TL SL yX0_provide cX0_provide 6 (some .int) 198 false wx_X0_provide [.ref th, .int a0, .int a1] σ0 (some (.int r.1)) r.2 := by
  refine x_of (l9 := [(0, some (.ref th)), (1, some (.int a0)), (2, some (.int a1))]) (by decide) (by exact Nat.le_of_ble_eq_true rfl) (by rfl) ?_
  intro p e s m args below meth c ls X K hnm hl hlm
  have B41 : ∀ (k29 : XS → Int32 → Int32 → Int32 → Int32 → Option (Int32 × XS)) (hk29 : (∀ (σ : XS) (x1 : Int32) (x2 : Int32) (x3 : Int32) (x4 : Int32) (ls : Array Slot), k29 σ x1 x2 x3 x4 = some r → agW false wx_X0_provide σ0 σ → lq ls 6 [(0, some (.ref th)), (1, some (.int x1)), (2, some (.int x2)), (3, some (.int x3)), (4, some (.int x4))] → ZX p l e 198 TL SL s m args below meth c D cx ro A false wx_X0_provide σ0 (some (.int r.1)) r.2 σ (F0 m 29 ls []))) (k41 : XS → Int32 → Int32 → Int32 → Int32 → Int32 → Option (Int32 × XS)) (hk41 : (∀ (σ : XS) (x1 : Int32) (x2 : Int32) (x3 : Int32) (x4 : Int32) (x5 : Int32) (ls : Array Slot), k41 σ x1 x2 x3 x4 x5 = some r → agW false wx_X0_provide σ0 σ → lq ls 6 [(0, some (.ref th)), (1, some (.int x1)), (2, some (.int x2)), (3, some (.int x3)), (4, some (.int x4)), (5, some (.int x5))] → ZX p l e 198 TL SL s m args below meth c D cx ro A false wx_X0_provide σ0 (some (.int r.1)) r.2 σ (F0 m 41 ls []))) (σ : XS) (x1 : Int32) (x2 : Int32) (x3 : Int32) (x4 : Int32) (x5 : Int32) (ls : Array Slot), X_X0_provide_B41 ro G th k29 k41 σ x1 x2 x3 x4 x5 = some r → agW false wx_X0_provide σ0 σ → lq ls 6 [(0, some (.ref th)), (1, some (.int x1)), (2, some (.int x2)), (3, some (.int x3)), (4, some (.int x4)), (5, some (.int x5))] → ZX p l e 198 TL SL s m args below meth c D cx ro A false wx_X0_provide σ0 (some (.int r.1)) r.2 σ (F0 m 41 ls []) := by
    intro k29 hk29 k41 hk41 σ x1 x2 x3 x4 x5 ls hF ha hl
    unfold X_X0_provide_B41 at hF
    refine g_iload (i := 5) K hl dX0_provide_41 rfl ?_
    refine g_iload_n (i := 3) K hl dX0_provide_43 rfl rfl ?_
    refine g_icmp_gt (tgt := 98) K hF dX0_provide_44 (by decide) (fun hF => ?_) (fun hF => ?_)
    · refine g_iinc (i := 4) K hl dX0_provide_98 rfl lc_1 rfl rfl (fun ls hl => ?_)
      refine g_goto (tgt := 29) K dX0_provide_101 (by decide) ?_
      exact hk29 _ _ _ _ _ ls hF ha (lq_sub hl rfl)
    · refine g_iload (i := 5) K hl dX0_provide_47 rfl ?_
      refine g_iload_n (i := 3) K hl dX0_provide_49 rfl rfl ?_
      refine g_iconst K dX0_provide_50 lc_m1 ?_
      refine g_ixor K dX0_provide_51 ?_
      refine g_iand K dX0_provide_52 ?_
      refine g_if_ne (tgt := 92) K hF dX0_provide_53 (by decide) (fun hF => ?_) (fun hF => ?_)
      · refine g_iinc (i := 5) K hl dX0_provide_92 rfl lc_1 rfl rfl (fun ls hl => ?_)
        refine g_goto (tgt := 41) K dX0_provide_95 (by decide) ?_
        exact hk41 _ _ _ _ _ _ ls hF ha (lq_sub hl rfl)
      · refine g_iload (i := 5) K hl dX0_provide_56 rfl ?_
        refine x_callP (V := Value.int) hF (fun t h => x_rS X hl (w_J13_bitCount _ _ t h) cpx_J13_bitCount q1396 rfl rfl rfl rfl (cat_room rfl) dX0_provide_58) (fun t1 hF => ?_)
        refine g_iload (i := 4) K hl dX0_provide_61 rfl ?_
        refine g_icmp_ne (tgt := 92) K hF dX0_provide_63 (by decide) (fun hF => ?_) (fun hF => ?_)
        · refine g_iinc (i := 5) K hl dX0_provide_92 rfl lc_1 rfl rfl (fun ls hl => ?_)
          refine g_goto (tgt := 41) K dX0_provide_95 (by decide) ?_
          exact hk41 _ _ _ _ _ _ ls hF ha (lq_sub hl rfl)
        · refine g_aload_n (i := 0) K hl dX0_provide_66 rfl rfl ?_
          refine g_iload (i := 5) K hl dX0_provide_67 rfl ?_
          refine g_iload_n (i := 1) K hl dX0_provide_69 rfl rfl ?_
          have hlZ := hl
          obtain ⟨q2, hq9, ht_q2, hZ⟩ := nnX_i hF
          cases hq9
          have hF := hZ
          clear hZ
          have hl := hlZ
          clear hlZ
          refine x_callW (V := Value.int) hF ha rfl (fun t h => x_rV X hl (w_X0_goneBy G _ _ _ _ t h) ht_q2 rfl rfl cpx_X0_goneBy q1384 rfl rfl rfl rfl (cat_room rfl) dX0_provide_70) (fun t3 σ4 hF ha => ?_)
          refine g_iload_n (i := 1) K hl dX0_provide_73 rfl rfl ?_
          refine g_icmp_gt (tgt := 80) K hF dX0_provide_74 (by decide) (fun hF => ?_) (fun hF => ?_)
          · refine g_iload_n (i := 2) K hl dX0_provide_80 rfl rfl ?_
            refine g_if_ne (tgt := 89) K hF dX0_provide_81 (by decide) (fun hF => ?_) (fun hF => ?_)
            · refine g_iload (i := 5) K hl dX0_provide_89 rfl ?_
              exact x_iretW X hF ha dX0_provide_91
            · refine g_iload (i := 4) K hl dX0_provide_84 rfl ?_
              refine g_goto (tgt := 91) K dX0_provide_86 (by decide) ?_
              exact x_iretW X hF ha dX0_provide_91
          · refine g_goto (tgt := 92) K dX0_provide_77 (by decide) ?_
            refine g_iinc (i := 5) K hl dX0_provide_92 rfl lc_1 rfl rfl (fun ls hl => ?_)
            refine g_goto (tgt := 41) K dX0_provide_95 (by decide) ?_
            exact hk41 _ _ _ _ _ _ ls hF ha (lq_sub hl rfl)
  have L41 : ∀ (k29 : XS → Int32 → Int32 → Int32 → Int32 → Option (Int32 × XS)) (hk29 : (∀ (σ : XS) (x1 : Int32) (x2 : Int32) (x3 : Int32) (x4 : Int32) (ls : Array Slot), k29 σ x1 x2 x3 x4 = some r → agW false wx_X0_provide σ0 σ → lq ls 6 [(0, some (.ref th)), (1, some (.int x1)), (2, some (.int x2)), (3, some (.int x3)), (4, some (.int x4))] → ZX p l e 198 TL SL s m args below meth c D cx ro A false wx_X0_provide σ0 (some (.int r.1)) r.2 σ (F0 m 29 ls []))) (n : Nat) (σ : XS) (x1 : Int32) (x2 : Int32) (x3 : Int32) (x4 : Int32) (x5 : Int32) (ls : Array Slot), X_X0_provide_L41 ro G th k29 n σ x1 x2 x3 x4 x5 = some r → agW false wx_X0_provide σ0 σ → lq ls 6 [(0, some (.ref th)), (1, some (.int x1)), (2, some (.int x2)), (3, some (.int x3)), (4, some (.int x4)), (5, some (.int x5))] → ZX p l e 198 TL SL s m args below meth c D cx ro A false wx_X0_provide σ0 (some (.int r.1)) r.2 σ (F0 m 41 ls []) := by
    intro k29 hk29 n
    induction n with
    | zero => intro σ x1 x2 x3 x4 x5 ls hF; exact absurd hF (fun h => by cases h)
    | succ n ih => intro σ x1 x2 x3 x4 x5 ls hF ha hl; exact B41 k29 hk29 _ ih _ _ _ _ _ _ ls hF ha hl
  have B29 : ∀ (k29 : XS → Int32 → Int32 → Int32 → Int32 → Option (Int32 × XS)) (hk29 : (∀ (σ : XS) (x1 : Int32) (x2 : Int32) (x3 : Int32) (x4 : Int32) (ls : Array Slot), k29 σ x1 x2 x3 x4 = some r → agW false wx_X0_provide σ0 σ → lq ls 6 [(0, some (.ref th)), (1, some (.int x1)), (2, some (.int x2)), (3, some (.int x3)), (4, some (.int x4))] → ZX p l e 198 TL SL s m args below meth c D cx ro A false wx_X0_provide σ0 (some (.int r.1)) r.2 σ (F0 m 29 ls []))) (σ : XS) (x1 : Int32) (x2 : Int32) (x3 : Int32) (x4 : Int32) (ls : Array Slot), X_X0_provide_B29 ro G th k29 σ x1 x2 x3 x4 = some r → agW false wx_X0_provide σ0 σ → lq ls 6 [(0, some (.ref th)), (1, some (.int x1)), (2, some (.int x2)), (3, some (.int x3)), (4, some (.int x4))] → ZX p l e 198 TL SL s m args below meth c D cx ro A false wx_X0_provide σ0 (some (.int r.1)) r.2 σ (F0 m 29 ls []) := by
    intro k29 hk29 σ x1 x2 x3 x4 ls hF ha hl
    unfold X_X0_provide_B29 at hF
    refine g_iload (i := 4) K hl dX0_provide_29 rfl ?_
    refine g_iload_n (i := 3) K hl dX0_provide_31 rfl rfl ?_
    refine x_callP (V := Value.int) hF (fun t h => x_rS X hl (w_J13_bitCount _ _ t h) cpx_J13_bitCount q1396 rfl rfl rfl rfl (cat_room rfl) dX0_provide_32) (fun t1 hF => ?_)
    refine g_icmp_gt (tgt := 104) K hF dX0_provide_35 (by decide) (fun hF => ?_) (fun hF => ?_)
    · refine g_iconst K dX0_provide_104 lc_m1 ?_
      exact x_iretW X hF ha dX0_provide_105
    · refine g_iconst K dX0_provide_38 lc_1 ?_
      refine g_istore (i := 5) K hl dX0_provide_39 rfl rfl (fun ls hl => ?_)
      exact L41 k29 hk29 G _ _ _ _ _ _ ls hF ha (lq_sub hl rfl)
  have L29 : ∀ (n : Nat) (σ : XS) (x1 : Int32) (x2 : Int32) (x3 : Int32) (x4 : Int32) (ls : Array Slot), X_X0_provide_L29 ro G th  n σ x1 x2 x3 x4 = some r → agW false wx_X0_provide σ0 σ → lq ls 6 [(0, some (.ref th)), (1, some (.int x1)), (2, some (.int x2)), (3, some (.int x3)), (4, some (.int x4))] → ZX p l e 198 TL SL s m args below meth c D cx ro A false wx_X0_provide σ0 (some (.int r.1)) r.2 σ (F0 m 29 ls []) := by
    intro  n
    induction n with
    | zero => intro σ x1 x2 x3 x4 ls hF; exact absurd hF (fun h => by cases h)
    | succ n ih => intro σ x1 x2 x3 x4 ls hF ha hl; exact B29  _ ih _ _ _ _ _ ls hF ha hl
  have ha : agW false wx_X0_provide σ0 σ0 := agW.rf
  unfold X_X0_provide at hF
  refine g_iload_n (i := 1) K hl dX0_provide_0 rfl rfl ?_
  refine g_iconst K dX0_provide_1 lc_1 ?_
  refine g_bipush K dX0_provide_2 lb_60 ?_
  refine x_callP (V := Value.int) hF (fun t h => x_rS X hl (w_X0_isIn _ _ _ _ t h) cpx_X0_isIn q1007 rfl rfl rfl rfl (cat_room rfl) dX0_provide_4) (fun t1 hF => ?_)
  refine g_if_eq (tgt := 19) K hF dX0_provide_7 (by decide) (fun hF => ?_) (fun hF => ?_)
  · refine g_iconst K dX0_provide_19 lc_m1 ?_
    exact x_iretW X hF ha dX0_provide_20
  · refine g_iload_n (i := 2) K hl dX0_provide_10 rfl rfl ?_
    refine g_iconst K dX0_provide_11 lc_0 ?_
    refine g_iconst K dX0_provide_12 lc_1 ?_
    refine x_callP (V := Value.int) hF (fun t h => x_rS X hl (w_X0_isIn _ _ _ _ t h) cpx_X0_isIn q1007 rfl rfl rfl rfl (cat_room rfl) dX0_provide_13) (fun t2 hF => ?_)
    refine g_if_ne (tgt := 21) K hF dX0_provide_16 (by decide) (fun hF => ?_) (fun hF => ?_)
    · refine g_aload_n (i := 0) K hl dX0_provide_21 rfl rfl ?_
      have hlZ := hl
      obtain ⟨q3, hq9, ht_q3, hZ⟩ := nnX_i hF
      cases hq9
      have hF := hZ
      clear hZ
      have hl := hlZ
      clear hlZ
      refine x_callP (V := Value.int) hF (fun t h => x_rV X hl (w_X0_inTub G _ _  t h) ht_q3 rfl rfl cpx_X0_inTub q1380 rfl rfl rfl rfl (cat_room rfl) dX0_provide_22) (fun t4 hF => ?_)
      refine g_istore_n (i := 3) K hl dX0_provide_25 rfl rfl rfl (fun ls hl => ?_)
      refine g_iconst K dX0_provide_26 lc_1 ?_
      refine g_istore (i := 4) K hl dX0_provide_27 rfl rfl (fun ls hl => ?_)
      exact L29  G _ _ _ _ _ ls hF ha (lq_sub hl rfl)
    · refine g_iconst K dX0_provide_19 lc_m1 ?_
      exact x_iretW X hF ha dX0_provide_20

theorem cpx_X0_waves : cpV yX0_waves cX0_waves 10 (some .int) 3 := ⟨q1403, q1404, q145, q1405, by decide +kernel⟩
set_option maxHeartbeats 4000000 in
set_option maxRecDepth 100000 in
theorem w_X0_waves {l : Launch} {D : va_G} {cx ro : Nat → Nat} {A : Nat → Prop} {TL SL : Nat} (G : Nat) (σ0 : XS) (th : Nat) (a0 : Int32) (a1 : Int32) (a2 : Int32) (r : (Int32 × XS)) (hF : X_X0_waves TL SL G σ0 th a0 a1 a2 = some r) : xMet l D cx ro A TL SL yX0_waves cX0_waves 10 (some .int) 6 true wx_X0_waves [.ref th, .int a0, .int a1, .int a2] σ0 (some (.int r.1)) r.2 := by
  refine x_of (l9 := [(0, some (.ref th)), (1, some (.int a0)), (2, some (.int a1)), (3, some (.int a2))]) (by decide) (by exact Nat.le_of_ble_eq_true rfl) (by rfl) ?_
  intro p e s m args below meth c ls X K hnm hl hlm
  have L235 : ∀ (σ : XS) (x5 : Int32) (ls : Array Slot), X_X0_waves_L235 TL SL G th  σ x5 = some r → agW true wx_X0_waves σ0 σ → lq ls 10 [(0, some (.ref th)), (5, some (.int x5))] → ZX p l e 6 TL SL s m args below meth c D cx ro A true wx_X0_waves σ0 (some (.int r.1)) r.2 σ (F0 m 235 ls []) := by
    intro  σ x5 ls hF ha hl
    unfold X_X0_waves_L235 at hF
    refine g_aload_n (i := 0) K hl dX0_waves_235 rfl rfl ?_
    refine g_iconst K dX0_waves_236 lc_0 ?_
    refine g_iload (i := 5) K hl dX0_waves_237 rfl ?_
    refine x_mmax X hl q1311 rfl rfl dX0_waves_239 ?_
    refine xp_X0_62 X hF ha rfl dX0_waves_242 (fun σ1 hF ha => ?_)
    refine g_iload (i := 5) K hl dX0_waves_245 rfl ?_
    exact x_iretW X hF ha dX0_waves_247
  have L223 : ∀ (k67 : XS → Int32 → Int32 → Int32 → Option Nat → Int32 → Int32 → Int32 → Option (Int32 × XS)) (hk67 : (∀ (σ : XS) (x1 : Int32) (x2 : Int32) (x3 : Int32) (x4 : Option Nat) (x5 : Int32) (x6 : Int32) (x7 : Int32) (ls : Array Slot), k67 σ x1 x2 x3 x4 x5 x6 x7 = some r → agW true wx_X0_waves σ0 σ → lq ls 10 [(0, some (.ref th)), (1, some (.int x1)), (2, some (.int x2)), (3, some (.int x3)), (4, some (va_rf x4)), (5, some (.int x5)), (6, some (.int x6)), (7, some (.int x7))] → ZX p l e 6 TL SL s m args below meth c D cx ro A true wx_X0_waves σ0 (some (.int r.1)) r.2 σ (F0 m 67 ls []))) (σ : XS) (x1 : Int32) (x2 : Int32) (x3 : Int32) (x4 : Option Nat) (x5 : Int32) (x6 : Int32) (x7 : Int32) (ls : Array Slot), X_X0_waves_L223 TL SL G th k67 σ x1 x2 x3 x4 x5 x6 x7 = some r → agW true wx_X0_waves σ0 σ → lq ls 10 [(0, some (.ref th)), (1, some (.int x1)), (2, some (.int x2)), (3, some (.int x3)), (4, some (va_rf x4)), (5, some (.int x5)), (6, some (.int x6)), (7, some (.int x7))] → ZX p l e 6 TL SL s m args below meth c D cx ro A true wx_X0_waves σ0 (some (.int r.1)) r.2 σ (F0 m 223 ls []) := by
    intro k67 hk67 σ x1 x2 x3 x4 x5 x6 x7 ls hF ha hl
    unfold X_X0_waves_L223 at hF
    refine g_iload (i := 6) K hl dX0_waves_223 rfl ?_
    refine g_iconst K dX0_waves_225 lc_4 ?_
    refine g_imul K dX0_waves_226 ?_
    refine g_istore (i := 6) K hl dX0_waves_227 rfl rfl (fun ls hl => ?_)
    refine g_iinc (i := 7) K hl dX0_waves_229 rfl lc_1 rfl rfl (fun ls hl => ?_)
    refine g_goto (tgt := 67) K dX0_waves_232 (by decide) ?_
    exact hk67 _ _ _ _ _ _ _ _ ls hF ha (lq_sub hl rfl)
  have L208 : ∀ (k67 : XS → Int32 → Int32 → Int32 → Option Nat → Int32 → Int32 → Int32 → Option (Int32 × XS)) (hk67 : (∀ (σ : XS) (x1 : Int32) (x2 : Int32) (x3 : Int32) (x4 : Option Nat) (x5 : Int32) (x6 : Int32) (x7 : Int32) (ls : Array Slot), k67 σ x1 x2 x3 x4 x5 x6 x7 = some r → agW true wx_X0_waves σ0 σ → lq ls 10 [(0, some (.ref th)), (1, some (.int x1)), (2, some (.int x2)), (3, some (.int x3)), (4, some (va_rf x4)), (5, some (.int x5)), (6, some (.int x6)), (7, some (.int x7))] → ZX p l e 6 TL SL s m args below meth c D cx ro A true wx_X0_waves σ0 (some (.int r.1)) r.2 σ (F0 m 67 ls []))) (k82 : XS → Int32 → Int32 → Int32 → Option Nat → Int32 → Int32 → Int32 → Int32 → Option (Int32 × XS)) (hk82 : (∀ (σ : XS) (x1 : Int32) (x2 : Int32) (x3 : Int32) (x4 : Option Nat) (x5 : Int32) (x6 : Int32) (x7 : Int32) (x8 : Int32) (ls : Array Slot), k82 σ x1 x2 x3 x4 x5 x6 x7 x8 = some r → agW true wx_X0_waves σ0 σ → lq ls 10 [(0, some (.ref th)), (1, some (.int x1)), (2, some (.int x2)), (3, some (.int x3)), (4, some (va_rf x4)), (5, some (.int x5)), (6, some (.int x6)), (7, some (.int x7)), (8, some (.int x8))] → ZX p l e 6 TL SL s m args below meth c D cx ro A true wx_X0_waves σ0 (some (.int r.1)) r.2 σ (F0 m 82 ls []))) (σ : XS) (x1 : Int32) (x2 : Int32) (x3 : Int32) (x4 : Option Nat) (x5 : Int32) (x6 : Int32) (x7 : Int32) (x8 : Int32) (ls : Array Slot), X_X0_waves_L208 TL SL G th k67 k82 σ x1 x2 x3 x4 x5 x6 x7 x8 = some r → agW true wx_X0_waves σ0 σ → lq ls 10 [(0, some (.ref th)), (1, some (.int x1)), (2, some (.int x2)), (3, some (.int x3)), (4, some (va_rf x4)), (5, some (.int x5)), (6, some (.int x6)), (7, some (.int x7)), (8, some (.int x8))] → ZX p l e 6 TL SL s m args below meth c D cx ro A true wx_X0_waves σ0 (some (.int r.1)) r.2 σ (F0 m 208 ls []) := by
    intro k67 hk67 k82 hk82 σ x1 x2 x3 x4 x5 x6 x7 x8 ls hF ha hl
    unfold X_X0_waves_L208 at hF
    refine g_aload_n (i := 0) K hl dX0_waves_208 rfl rfl ?_
    refine xg_X0_12 X hF dX0_waves_209 (fun t1 hF => ?_)
    refine g_aloadR (i := 4) K hl dX0_waves_212 rfl ?_
    have hlZ := hl
    obtain ⟨q2, hq9, ht_q2, hZ⟩ := nnX_i hF
    cases hq9
    have hF := hZ
    clear hZ
    have hl := hlZ
    clear hlZ
    refine x_callV hF ha rfl (fun t h => x_rV X hl (w_X1_bring G _ _ _ t h) ht_q2 rfl rfl cpx_X1_bring q1283 rfl rfl rfl rfl (cat_room rfl) dX0_waves_214) (fun σ3 hF ha => ?_)
    refine g_iinc (i := 8) K hl dX0_waves_217 rfl lc_1 rfl rfl (fun ls hl => ?_)
    refine g_goto (tgt := 82) K dX0_waves_220 (by decide) ?_
    exact hk82 _ _ _ _ _ _ _ _ _ ls hF ha (lq_sub hl rfl)
  have B134 : ∀ (k67 : XS → Int32 → Int32 → Int32 → Option Nat → Int32 → Int32 → Int32 → Option (Int32 × XS)) (hk67 : (∀ (σ : XS) (x1 : Int32) (x2 : Int32) (x3 : Int32) (x4 : Option Nat) (x5 : Int32) (x6 : Int32) (x7 : Int32) (ls : Array Slot), k67 σ x1 x2 x3 x4 x5 x6 x7 = some r → agW true wx_X0_waves σ0 σ → lq ls 10 [(0, some (.ref th)), (1, some (.int x1)), (2, some (.int x2)), (3, some (.int x3)), (4, some (va_rf x4)), (5, some (.int x5)), (6, some (.int x6)), (7, some (.int x7))] → ZX p l e 6 TL SL s m args below meth c D cx ro A true wx_X0_waves σ0 (some (.int r.1)) r.2 σ (F0 m 67 ls []))) (k82 : XS → Int32 → Int32 → Int32 → Option Nat → Int32 → Int32 → Int32 → Int32 → Option (Int32 × XS)) (hk82 : (∀ (σ : XS) (x1 : Int32) (x2 : Int32) (x3 : Int32) (x4 : Option Nat) (x5 : Int32) (x6 : Int32) (x7 : Int32) (x8 : Int32) (ls : Array Slot), k82 σ x1 x2 x3 x4 x5 x6 x7 x8 = some r → agW true wx_X0_waves σ0 σ → lq ls 10 [(0, some (.ref th)), (1, some (.int x1)), (2, some (.int x2)), (3, some (.int x3)), (4, some (va_rf x4)), (5, some (.int x5)), (6, some (.int x6)), (7, some (.int x7)), (8, some (.int x8))] → ZX p l e 6 TL SL s m args below meth c D cx ro A true wx_X0_waves σ0 (some (.int r.1)) r.2 σ (F0 m 82 ls []))) (k134 : XS → Int32 → Int32 → Int32 → Option Nat → Int32 → Int32 → Int32 → Int32 → Int32 → Option (Int32 × XS)) (hk134 : (∀ (σ : XS) (x1 : Int32) (x2 : Int32) (x3 : Int32) (x4 : Option Nat) (x5 : Int32) (x6 : Int32) (x7 : Int32) (x8 : Int32) (x9 : Int32) (ls : Array Slot), k134 σ x1 x2 x3 x4 x5 x6 x7 x8 x9 = some r → agW true wx_X0_waves σ0 σ → lq ls 10 [(0, some (.ref th)), (1, some (.int x1)), (2, some (.int x2)), (3, some (.int x3)), (4, some (va_rf x4)), (5, some (.int x5)), (6, some (.int x6)), (7, some (.int x7)), (8, some (.int x8)), (9, some (.int x9))] → ZX p l e 6 TL SL s m args below meth c D cx ro A true wx_X0_waves σ0 (some (.int r.1)) r.2 σ (F0 m 134 ls []))) (σ : XS) (x1 : Int32) (x2 : Int32) (x3 : Int32) (x4 : Option Nat) (x5 : Int32) (x6 : Int32) (x7 : Int32) (x8 : Int32) (x9 : Int32) (ls : Array Slot), X_X0_waves_B134 TL SL G th k67 k82 k134 σ x1 x2 x3 x4 x5 x6 x7 x8 x9 = some r → agW true wx_X0_waves σ0 σ → lq ls 10 [(0, some (.ref th)), (1, some (.int x1)), (2, some (.int x2)), (3, some (.int x3)), (4, some (va_rf x4)), (5, some (.int x5)), (6, some (.int x6)), (7, some (.int x7)), (8, some (.int x8)), (9, some (.int x9))] → ZX p l e 6 TL SL s m args below meth c D cx ro A true wx_X0_waves σ0 (some (.int r.1)) r.2 σ (F0 m 134 ls []) := by
    intro k67 hk67 k82 hk82 k134 hk134 σ x1 x2 x3 x4 x5 x6 x7 x8 x9 ls hF ha hl
    unfold X_X0_waves_B134 at hF
    refine g_iload (i := 9) K hl dX0_waves_134 rfl ?_
    refine g_iload (i := 7) K hl dX0_waves_136 rfl ?_
    refine g_icmp_ge (tgt := 162) K hF dX0_waves_138 (by decide) (fun hF => ?_) (fun hF => ?_)
    · refine g_aload_n (i := 0) K hl dX0_waves_162 rfl rfl ?_
      refine xg_X0_12 X hF dX0_waves_163 (fun t1 hF => ?_)
      refine xg_X0_87 X hF dX0_waves_166 (fun t2 hF => ?_)
      refine g_iload_n (i := 1) K hl dX0_waves_169 rfl rfl ?_
      have hlZ := hl
      obtain ⟨q3, hq9, ht_q3, hZ⟩ := nnX_i hF
      cases hq9
      have hF := hZ
      clear hZ
      have hl := hlZ
      clear hlZ
      refine x_callP (V := va_rf) hF (fun t h => x_rV X hl (w_J2_get _ _ _ t h) ht_q3 rfl rfl cpx_J2_get q1010 rfl rfl rfl rfl (cat_room rfl) dX0_waves_170) (fun t4 hF => ?_)
      refine x_cast X hF rfl q1011 dX0_waves_173 (fun hF => ?_)
      refine xg_X0_147 X hF dX0_waves_176 (fun t5 hF => ?_)
      refine g_iload_n (i := 2) K hl dX0_waves_179 rfl rfl ?_
      refine g_icmp_ne (tgt := 208) K hF dX0_waves_180 (by decide) (fun hF => ?_) (fun hF => ?_)
      · exact L208 k67 hk67 k82 hk82 _ _ _ _ _ _ _ _ _ ls hF ha (lq_sub hl rfl)
      · refine g_aload_n (i := 0) K hl dX0_waves_183 rfl rfl ?_
        refine xg_X0_12 X hF dX0_waves_184 (fun t6 hF => ?_)
        refine xg_X0_87 X hF dX0_waves_187 (fun t7 hF => ?_)
        refine g_iload_n (i := 1) K hl dX0_waves_190 rfl rfl ?_
        have hlZ := hl
        obtain ⟨q8, hq9, ht_q8, hZ⟩ := nnX_i hF
        cases hq9
        have hF := hZ
        clear hZ
        have hl := hlZ
        clear hlZ
        refine x_callP (V := va_rf) hF (fun t h => x_rV X hl (w_J2_get _ _ _ t h) ht_q8 rfl rfl cpx_J2_get q1010 rfl rfl rfl rfl (cat_room rfl) dX0_waves_191) (fun t9 hF => ?_)
        refine x_cast X hF rfl q1011 dX0_waves_194 (fun hF => ?_)
        refine xg_X0_150 X hF dX0_waves_197 (fun t10 hF => ?_)
        refine g_iload_n (i := 3) K hl dX0_waves_200 rfl rfl ?_
        refine g_icmp_ne (tgt := 208) K hF dX0_waves_201 (by decide) (fun hF => ?_) (fun hF => ?_)
        · exact L208 k67 hk67 k82 hk82 _ _ _ _ _ _ _ _ _ ls hF ha (lq_sub hl rfl)
        · refine g_iload (i := 7) K hl dX0_waves_204 rfl ?_
          refine g_istore (i := 5) K hl dX0_waves_206 rfl (lkn_rf rfl) (fun ls hl => ?_)
          exact L208 k67 hk67 k82 hk82 _ _ _ _ _ _ _ _ _ ls hF ha (lq_sub hl rfl)
    · refine g_aload_n (i := 0) K hl dX0_waves_141 rfl rfl ?_
      refine xg_X0_12 X hF dX0_waves_142 (fun t11 hF => ?_)
      refine g_aload_n (i := 0) K hl dX0_waves_145 rfl rfl ?_
      refine xg_X0_38 X hF dX0_waves_146 (fun t12 hF => ?_)
      refine g_iload (i := 9) K hl dX0_waves_149 rfl ?_
      refine x_iald X hF dX0_waves_151 (fun t13 hF => ?_)
      have hlZ := hl
      obtain ⟨q14, hq9, ht_q14, hZ⟩ := nnX_i hF
      cases hq9
      have hF := hZ
      clear hZ
      have hl := hlZ
      clear hlZ
      refine x_callW (V := Value.int) hF ha rfl (fun t h => x_rV X hl (w_X1_wave G _ _ _ t h) ht_q14 rfl rfl cpx_X1_wave q1256 rfl rfl rfl rfl (cat_room rfl) dX0_waves_152) (fun t15 σ16 hF ha => ?_)
      refine g_pop K dX0_waves_155 rfl ?_
      refine g_iinc (i := 9) K hl dX0_waves_156 rfl lc_1 rfl rfl (fun ls hl => ?_)
      refine g_goto (tgt := 134) K dX0_waves_159 (by decide) ?_
      exact hk134 _ _ _ _ _ _ _ _ _ _ ls hF ha (lq_sub hl rfl)
  have L134 : ∀ (k67 : XS → Int32 → Int32 → Int32 → Option Nat → Int32 → Int32 → Int32 → Option (Int32 × XS)) (hk67 : (∀ (σ : XS) (x1 : Int32) (x2 : Int32) (x3 : Int32) (x4 : Option Nat) (x5 : Int32) (x6 : Int32) (x7 : Int32) (ls : Array Slot), k67 σ x1 x2 x3 x4 x5 x6 x7 = some r → agW true wx_X0_waves σ0 σ → lq ls 10 [(0, some (.ref th)), (1, some (.int x1)), (2, some (.int x2)), (3, some (.int x3)), (4, some (va_rf x4)), (5, some (.int x5)), (6, some (.int x6)), (7, some (.int x7))] → ZX p l e 6 TL SL s m args below meth c D cx ro A true wx_X0_waves σ0 (some (.int r.1)) r.2 σ (F0 m 67 ls []))) (k82 : XS → Int32 → Int32 → Int32 → Option Nat → Int32 → Int32 → Int32 → Int32 → Option (Int32 × XS)) (hk82 : (∀ (σ : XS) (x1 : Int32) (x2 : Int32) (x3 : Int32) (x4 : Option Nat) (x5 : Int32) (x6 : Int32) (x7 : Int32) (x8 : Int32) (ls : Array Slot), k82 σ x1 x2 x3 x4 x5 x6 x7 x8 = some r → agW true wx_X0_waves σ0 σ → lq ls 10 [(0, some (.ref th)), (1, some (.int x1)), (2, some (.int x2)), (3, some (.int x3)), (4, some (va_rf x4)), (5, some (.int x5)), (6, some (.int x6)), (7, some (.int x7)), (8, some (.int x8))] → ZX p l e 6 TL SL s m args below meth c D cx ro A true wx_X0_waves σ0 (some (.int r.1)) r.2 σ (F0 m 82 ls []))) (n : Nat) (σ : XS) (x1 : Int32) (x2 : Int32) (x3 : Int32) (x4 : Option Nat) (x5 : Int32) (x6 : Int32) (x7 : Int32) (x8 : Int32) (x9 : Int32) (ls : Array Slot), X_X0_waves_L134 TL SL G th k67 k82 n σ x1 x2 x3 x4 x5 x6 x7 x8 x9 = some r → agW true wx_X0_waves σ0 σ → lq ls 10 [(0, some (.ref th)), (1, some (.int x1)), (2, some (.int x2)), (3, some (.int x3)), (4, some (va_rf x4)), (5, some (.int x5)), (6, some (.int x6)), (7, some (.int x7)), (8, some (.int x8)), (9, some (.int x9))] → ZX p l e 6 TL SL s m args below meth c D cx ro A true wx_X0_waves σ0 (some (.int r.1)) r.2 σ (F0 m 134 ls []) := by
    intro k67 hk67 k82 hk82 n
    induction n with
    | zero => intro σ x1 x2 x3 x4 x5 x6 x7 x8 x9 ls hF; exact absurd hF (fun h => by cases h)
    | succ n ih => intro σ x1 x2 x3 x4 x5 x6 x7 x8 x9 ls hF ha hl; exact B134 k67 hk67 k82 hk82 _ ih _ _ _ _ _ _ _ _ _ _ ls hF ha hl
  have B97 : ∀ (k67 : XS → Int32 → Int32 → Int32 → Option Nat → Int32 → Int32 → Int32 → Option (Int32 × XS)) (hk67 : (∀ (σ : XS) (x1 : Int32) (x2 : Int32) (x3 : Int32) (x4 : Option Nat) (x5 : Int32) (x6 : Int32) (x7 : Int32) (ls : Array Slot), k67 σ x1 x2 x3 x4 x5 x6 x7 = some r → agW true wx_X0_waves σ0 σ → lq ls 10 [(0, some (.ref th)), (1, some (.int x1)), (2, some (.int x2)), (3, some (.int x3)), (4, some (va_rf x4)), (5, some (.int x5)), (6, some (.int x6)), (7, some (.int x7))] → ZX p l e 6 TL SL s m args below meth c D cx ro A true wx_X0_waves σ0 (some (.int r.1)) r.2 σ (F0 m 67 ls []))) (k82 : XS → Int32 → Int32 → Int32 → Option Nat → Int32 → Int32 → Int32 → Int32 → Option (Int32 × XS)) (hk82 : (∀ (σ : XS) (x1 : Int32) (x2 : Int32) (x3 : Int32) (x4 : Option Nat) (x5 : Int32) (x6 : Int32) (x7 : Int32) (x8 : Int32) (ls : Array Slot), k82 σ x1 x2 x3 x4 x5 x6 x7 x8 = some r → agW true wx_X0_waves σ0 σ → lq ls 10 [(0, some (.ref th)), (1, some (.int x1)), (2, some (.int x2)), (3, some (.int x3)), (4, some (va_rf x4)), (5, some (.int x5)), (6, some (.int x6)), (7, some (.int x7)), (8, some (.int x8))] → ZX p l e 6 TL SL s m args below meth c D cx ro A true wx_X0_waves σ0 (some (.int r.1)) r.2 σ (F0 m 82 ls []))) (k97 : XS → Int32 → Int32 → Int32 → Option Nat → Int32 → Int32 → Int32 → Int32 → Int32 → Option (Int32 × XS)) (hk97 : (∀ (σ : XS) (x1 : Int32) (x2 : Int32) (x3 : Int32) (x4 : Option Nat) (x5 : Int32) (x6 : Int32) (x7 : Int32) (x8 : Int32) (x9 : Int32) (ls : Array Slot), k97 σ x1 x2 x3 x4 x5 x6 x7 x8 x9 = some r → agW true wx_X0_waves σ0 σ → lq ls 10 [(0, some (.ref th)), (1, some (.int x1)), (2, some (.int x2)), (3, some (.int x3)), (4, some (va_rf x4)), (5, some (.int x5)), (6, some (.int x6)), (7, some (.int x7)), (8, some (.int x8)), (9, some (.int x9))] → ZX p l e 6 TL SL s m args below meth c D cx ro A true wx_X0_waves σ0 (some (.int r.1)) r.2 σ (F0 m 97 ls []))) (σ : XS) (x1 : Int32) (x2 : Int32) (x3 : Int32) (x4 : Option Nat) (x5 : Int32) (x6 : Int32) (x7 : Int32) (x8 : Int32) (x9 : Int32) (ls : Array Slot), X_X0_waves_B97 TL SL G th k67 k82 k97 σ x1 x2 x3 x4 x5 x6 x7 x8 x9 = some r → agW true wx_X0_waves σ0 σ → lq ls 10 [(0, some (.ref th)), (1, some (.int x1)), (2, some (.int x2)), (3, some (.int x3)), (4, some (va_rf x4)), (5, some (.int x5)), (6, some (.int x6)), (7, some (.int x7)), (8, some (.int x8)), (9, some (.int x9))] → ZX p l e 6 TL SL s m args below meth c D cx ro A true wx_X0_waves σ0 (some (.int r.1)) r.2 σ (F0 m 97 ls []) := by
    intro k67 hk67 k82 hk82 k97 hk97 σ x1 x2 x3 x4 x5 x6 x7 x8 x9 ls hF ha hl
    unfold X_X0_waves_B97 at hF
    refine g_iload (i := 9) K hl dX0_waves_97 rfl ?_
    refine g_iload (i := 7) K hl dX0_waves_99 rfl ?_
    refine g_icmp_ge (tgt := 131) K hF dX0_waves_101 (by decide) (fun hF => ?_) (fun hF => ?_)
    · refine g_iconst K dX0_waves_131 lc_0 ?_
      refine g_istore (i := 9) K hl dX0_waves_132 rfl rfl (fun ls hl => ?_)
      exact L134 k67 hk67 k82 hk82 G _ _ _ _ _ _ _ _ _ _ ls hF ha (lq_sub hl rfl)
    · refine g_aload_n (i := 0) K hl dX0_waves_104 rfl rfl ?_
      refine xg_X0_38 X hF dX0_waves_105 (fun t1 hF => ?_)
      refine g_iload (i := 9) K hl dX0_waves_108 rfl ?_
      refine g_iload (i := 8) K hl dX0_waves_110 rfl ?_
      refine g_iconst K dX0_waves_112 lc_2 ?_
      refine g_iload (i := 7) K hl dX0_waves_113 rfl ?_
      refine g_iconst K dX0_waves_115 lc_1 ?_
      refine g_isub K dX0_waves_116 ?_
      refine g_iload (i := 9) K hl dX0_waves_117 rfl ?_
      refine g_isub K dX0_waves_119 ?_
      refine g_imul K dX0_waves_120 ?_
      refine g_ishr K dX0_waves_121 ?_
      refine g_iconst K dX0_waves_122 lc_3 ?_
      refine g_iand K dX0_waves_123 ?_
      refine x_iast X hF ha rfl dX0_waves_124 (fun σ2 hF ha => ?_)
      refine g_iinc (i := 9) K hl dX0_waves_125 rfl lc_1 rfl rfl (fun ls hl => ?_)
      refine g_goto (tgt := 97) K dX0_waves_128 (by decide) ?_
      exact hk97 _ _ _ _ _ _ _ _ _ _ ls hF ha (lq_sub hl rfl)
  have L97 : ∀ (k67 : XS → Int32 → Int32 → Int32 → Option Nat → Int32 → Int32 → Int32 → Option (Int32 × XS)) (hk67 : (∀ (σ : XS) (x1 : Int32) (x2 : Int32) (x3 : Int32) (x4 : Option Nat) (x5 : Int32) (x6 : Int32) (x7 : Int32) (ls : Array Slot), k67 σ x1 x2 x3 x4 x5 x6 x7 = some r → agW true wx_X0_waves σ0 σ → lq ls 10 [(0, some (.ref th)), (1, some (.int x1)), (2, some (.int x2)), (3, some (.int x3)), (4, some (va_rf x4)), (5, some (.int x5)), (6, some (.int x6)), (7, some (.int x7))] → ZX p l e 6 TL SL s m args below meth c D cx ro A true wx_X0_waves σ0 (some (.int r.1)) r.2 σ (F0 m 67 ls []))) (k82 : XS → Int32 → Int32 → Int32 → Option Nat → Int32 → Int32 → Int32 → Int32 → Option (Int32 × XS)) (hk82 : (∀ (σ : XS) (x1 : Int32) (x2 : Int32) (x3 : Int32) (x4 : Option Nat) (x5 : Int32) (x6 : Int32) (x7 : Int32) (x8 : Int32) (ls : Array Slot), k82 σ x1 x2 x3 x4 x5 x6 x7 x8 = some r → agW true wx_X0_waves σ0 σ → lq ls 10 [(0, some (.ref th)), (1, some (.int x1)), (2, some (.int x2)), (3, some (.int x3)), (4, some (va_rf x4)), (5, some (.int x5)), (6, some (.int x6)), (7, some (.int x7)), (8, some (.int x8))] → ZX p l e 6 TL SL s m args below meth c D cx ro A true wx_X0_waves σ0 (some (.int r.1)) r.2 σ (F0 m 82 ls []))) (n : Nat) (σ : XS) (x1 : Int32) (x2 : Int32) (x3 : Int32) (x4 : Option Nat) (x5 : Int32) (x6 : Int32) (x7 : Int32) (x8 : Int32) (x9 : Int32) (ls : Array Slot), X_X0_waves_L97 TL SL G th k67 k82 n σ x1 x2 x3 x4 x5 x6 x7 x8 x9 = some r → agW true wx_X0_waves σ0 σ → lq ls 10 [(0, some (.ref th)), (1, some (.int x1)), (2, some (.int x2)), (3, some (.int x3)), (4, some (va_rf x4)), (5, some (.int x5)), (6, some (.int x6)), (7, some (.int x7)), (8, some (.int x8)), (9, some (.int x9))] → ZX p l e 6 TL SL s m args below meth c D cx ro A true wx_X0_waves σ0 (some (.int r.1)) r.2 σ (F0 m 97 ls []) := by
    intro k67 hk67 k82 hk82 n
    induction n with
    | zero => intro σ x1 x2 x3 x4 x5 x6 x7 x8 x9 ls hF; exact absurd hF (fun h => by cases h)
    | succ n ih => intro σ x1 x2 x3 x4 x5 x6 x7 x8 x9 ls hF ha hl; exact B97 k67 hk67 k82 hk82 _ ih _ _ _ _ _ _ _ _ _ _ ls hF ha hl
  have B82 : ∀ (k67 : XS → Int32 → Int32 → Int32 → Option Nat → Int32 → Int32 → Int32 → Option (Int32 × XS)) (hk67 : (∀ (σ : XS) (x1 : Int32) (x2 : Int32) (x3 : Int32) (x4 : Option Nat) (x5 : Int32) (x6 : Int32) (x7 : Int32) (ls : Array Slot), k67 σ x1 x2 x3 x4 x5 x6 x7 = some r → agW true wx_X0_waves σ0 σ → lq ls 10 [(0, some (.ref th)), (1, some (.int x1)), (2, some (.int x2)), (3, some (.int x3)), (4, some (va_rf x4)), (5, some (.int x5)), (6, some (.int x6)), (7, some (.int x7))] → ZX p l e 6 TL SL s m args below meth c D cx ro A true wx_X0_waves σ0 (some (.int r.1)) r.2 σ (F0 m 67 ls []))) (k82 : XS → Int32 → Int32 → Int32 → Option Nat → Int32 → Int32 → Int32 → Int32 → Option (Int32 × XS)) (hk82 : (∀ (σ : XS) (x1 : Int32) (x2 : Int32) (x3 : Int32) (x4 : Option Nat) (x5 : Int32) (x6 : Int32) (x7 : Int32) (x8 : Int32) (ls : Array Slot), k82 σ x1 x2 x3 x4 x5 x6 x7 x8 = some r → agW true wx_X0_waves σ0 σ → lq ls 10 [(0, some (.ref th)), (1, some (.int x1)), (2, some (.int x2)), (3, some (.int x3)), (4, some (va_rf x4)), (5, some (.int x5)), (6, some (.int x6)), (7, some (.int x7)), (8, some (.int x8))] → ZX p l e 6 TL SL s m args below meth c D cx ro A true wx_X0_waves σ0 (some (.int r.1)) r.2 σ (F0 m 82 ls []))) (σ : XS) (x1 : Int32) (x2 : Int32) (x3 : Int32) (x4 : Option Nat) (x5 : Int32) (x6 : Int32) (x7 : Int32) (x8 : Int32) (ls : Array Slot), X_X0_waves_B82 TL SL G th k67 k82 σ x1 x2 x3 x4 x5 x6 x7 x8 = some r → agW true wx_X0_waves σ0 σ → lq ls 10 [(0, some (.ref th)), (1, some (.int x1)), (2, some (.int x2)), (3, some (.int x3)), (4, some (va_rf x4)), (5, some (.int x5)), (6, some (.int x6)), (7, some (.int x7)), (8, some (.int x8))] → ZX p l e 6 TL SL s m args below meth c D cx ro A true wx_X0_waves σ0 (some (.int r.1)) r.2 σ (F0 m 82 ls []) := by
    intro k67 hk67 k82 hk82 σ x1 x2 x3 x4 x5 x6 x7 x8 ls hF ha hl
    unfold X_X0_waves_B82 at hF
    refine g_iload (i := 8) K hl dX0_waves_82 rfl ?_
    refine g_iload (i := 6) K hl dX0_waves_84 rfl ?_
    refine g_icmp_ge (tgt := 223) K hF dX0_waves_86 (by decide) (fun hF => ?_) (fun hF => ?_)
    · exact L223 k67 hk67 _ _ _ _ _ _ _ _ ls hF ha (lq_sub hl rfl)
    · refine g_iload (i := 5) K hl dX0_waves_89 rfl ?_
      refine g_if_ge (tgt := 223) K hF dX0_waves_91 (by decide) (fun hF => ?_) (fun hF => ?_)
      · exact L223 k67 hk67 _ _ _ _ _ _ _ _ ls hF ha (lq_sub hl rfl)
      · refine g_iconst K dX0_waves_94 lc_0 ?_
        refine g_istore (i := 9) K hl dX0_waves_95 rfl rfl (fun ls hl => ?_)
        exact L97 k67 hk67 k82 hk82 G _ _ _ _ _ _ _ _ _ _ ls hF ha (lq_sub hl rfl)
  have L82 : ∀ (k67 : XS → Int32 → Int32 → Int32 → Option Nat → Int32 → Int32 → Int32 → Option (Int32 × XS)) (hk67 : (∀ (σ : XS) (x1 : Int32) (x2 : Int32) (x3 : Int32) (x4 : Option Nat) (x5 : Int32) (x6 : Int32) (x7 : Int32) (ls : Array Slot), k67 σ x1 x2 x3 x4 x5 x6 x7 = some r → agW true wx_X0_waves σ0 σ → lq ls 10 [(0, some (.ref th)), (1, some (.int x1)), (2, some (.int x2)), (3, some (.int x3)), (4, some (va_rf x4)), (5, some (.int x5)), (6, some (.int x6)), (7, some (.int x7))] → ZX p l e 6 TL SL s m args below meth c D cx ro A true wx_X0_waves σ0 (some (.int r.1)) r.2 σ (F0 m 67 ls []))) (n : Nat) (σ : XS) (x1 : Int32) (x2 : Int32) (x3 : Int32) (x4 : Option Nat) (x5 : Int32) (x6 : Int32) (x7 : Int32) (x8 : Int32) (ls : Array Slot), X_X0_waves_L82 TL SL G th k67 n σ x1 x2 x3 x4 x5 x6 x7 x8 = some r → agW true wx_X0_waves σ0 σ → lq ls 10 [(0, some (.ref th)), (1, some (.int x1)), (2, some (.int x2)), (3, some (.int x3)), (4, some (va_rf x4)), (5, some (.int x5)), (6, some (.int x6)), (7, some (.int x7)), (8, some (.int x8))] → ZX p l e 6 TL SL s m args below meth c D cx ro A true wx_X0_waves σ0 (some (.int r.1)) r.2 σ (F0 m 82 ls []) := by
    intro k67 hk67 n
    induction n with
    | zero => intro σ x1 x2 x3 x4 x5 x6 x7 x8 ls hF; exact absurd hF (fun h => by cases h)
    | succ n ih => intro σ x1 x2 x3 x4 x5 x6 x7 x8 ls hF ha hl; exact B82 k67 hk67 _ ih _ _ _ _ _ _ _ _ _ ls hF ha hl
  have B67 : ∀ (k67 : XS → Int32 → Int32 → Int32 → Option Nat → Int32 → Int32 → Int32 → Option (Int32 × XS)) (hk67 : (∀ (σ : XS) (x1 : Int32) (x2 : Int32) (x3 : Int32) (x4 : Option Nat) (x5 : Int32) (x6 : Int32) (x7 : Int32) (ls : Array Slot), k67 σ x1 x2 x3 x4 x5 x6 x7 = some r → agW true wx_X0_waves σ0 σ → lq ls 10 [(0, some (.ref th)), (1, some (.int x1)), (2, some (.int x2)), (3, some (.int x3)), (4, some (va_rf x4)), (5, some (.int x5)), (6, some (.int x6)), (7, some (.int x7))] → ZX p l e 6 TL SL s m args below meth c D cx ro A true wx_X0_waves σ0 (some (.int r.1)) r.2 σ (F0 m 67 ls []))) (σ : XS) (x1 : Int32) (x2 : Int32) (x3 : Int32) (x4 : Option Nat) (x5 : Int32) (x6 : Int32) (x7 : Int32) (ls : Array Slot), X_X0_waves_B67 TL SL G th k67 σ x1 x2 x3 x4 x5 x6 x7 = some r → agW true wx_X0_waves σ0 σ → lq ls 10 [(0, some (.ref th)), (1, some (.int x1)), (2, some (.int x2)), (3, some (.int x3)), (4, some (va_rf x4)), (5, some (.int x5)), (6, some (.int x6)), (7, some (.int x7))] → ZX p l e 6 TL SL s m args below meth c D cx ro A true wx_X0_waves σ0 (some (.int r.1)) r.2 σ (F0 m 67 ls []) := by
    intro k67 hk67 σ x1 x2 x3 x4 x5 x6 x7 ls hF ha hl
    unfold X_X0_waves_B67 at hF
    refine g_iload (i := 7) K hl dX0_waves_67 rfl ?_
    refine g_bipush K dX0_waves_69 lb_6 ?_
    refine g_icmp_gt (tgt := 235) K hF dX0_waves_71 (by decide) (fun hF => ?_) (fun hF => ?_)
    · exact L235  _ _ ls hF ha (lq_sub hl rfl)
    · refine g_iload (i := 5) K hl dX0_waves_74 rfl ?_
      refine g_if_ge (tgt := 235) K hF dX0_waves_76 (by decide) (fun hF => ?_) (fun hF => ?_)
      · exact L235  _ _ ls hF ha (lq_sub hl rfl)
      · refine g_iconst K dX0_waves_79 lc_0 ?_
        refine g_istore (i := 8) K hl dX0_waves_80 rfl rfl (fun ls hl => ?_)
        exact L82 k67 hk67 G _ _ _ _ _ _ _ _ _ ls hF ha (lq_sub hl rfl)
  have L67 : ∀ (n : Nat) (σ : XS) (x1 : Int32) (x2 : Int32) (x3 : Int32) (x4 : Option Nat) (x5 : Int32) (x6 : Int32) (x7 : Int32) (ls : Array Slot), X_X0_waves_L67 TL SL G th  n σ x1 x2 x3 x4 x5 x6 x7 = some r → agW true wx_X0_waves σ0 σ → lq ls 10 [(0, some (.ref th)), (1, some (.int x1)), (2, some (.int x2)), (3, some (.int x3)), (4, some (va_rf x4)), (5, some (.int x5)), (6, some (.int x6)), (7, some (.int x7))] → ZX p l e 6 TL SL s m args below meth c D cx ro A true wx_X0_waves σ0 (some (.int r.1)) r.2 σ (F0 m 67 ls []) := by
    intro  n
    induction n with
    | zero => intro σ x1 x2 x3 x4 x5 x6 x7 ls hF; exact absurd hF (fun h => by cases h)
    | succ n ih => intro σ x1 x2 x3 x4 x5 x6 x7 ls hF ha hl; exact B67  _ ih _ _ _ _ _ _ _ _ ls hF ha hl
  have ha : agW true wx_X0_waves σ0 σ0 := agW.rf
  unfold X_X0_waves at hF
  refine g_aload_n (i := 0) K hl dX0_waves_0 rfl rfl ?_
  refine g_iconst K dX0_waves_1 lc_0 ?_
  refine xp_X0_62 X hF ha rfl dX0_waves_2 (fun σ1 hF ha => ?_)
  refine g_aload_n (i := 0) K hl dX0_waves_5 rfl rfl ?_
  refine g_iload_n (i := 1) K hl dX0_waves_6 rfl rfl ?_
  have hlZ := hl
  obtain ⟨q2, hq9, ht_q2, hZ⟩ := nnX_i hF
  cases hq9
  have hF := hZ
  clear hZ
  have hl := hlZ
  clear hlZ
  refine x_callP (V := Value.int) hF (fun t h => x_rV X hl (w_X0_isApple _ _ _ t h) ht_q2 rfl rfl cpx_X0_isApple q1003 rfl rfl rfl rfl (cat_room rfl) dX0_waves_7) (fun t3 hF => ?_)
  refine g_if_eq (tgt := 46) K hF dX0_waves_10 (by decide) (fun hF => ?_) (fun hF => ?_)
  · refine g_bipush K dX0_waves_46 lb_m2 ?_
    exact x_iretW X hF ha dX0_waves_48
  · refine g_aload_n (i := 0) K hl dX0_waves_13 rfl rfl ?_
    refine xg_X0_12 X hF dX0_waves_14 (fun t4 hF => ?_)
    refine xg_X0_87 X hF dX0_waves_17 (fun t5 hF => ?_)
    refine g_iload_n (i := 1) K hl dX0_waves_20 rfl rfl ?_
    have hlZ := hl
    obtain ⟨q6, hq9, ht_q6, hZ⟩ := nnX_i hF
    cases hq9
    have hF := hZ
    clear hZ
    have hl := hlZ
    clear hlZ
    refine x_callP (V := va_rf) hF (fun t h => x_rV X hl (w_J2_get _ _ _ t h) ht_q6 rfl rfl cpx_J2_get q1010 rfl rfl rfl rfl (cat_room rfl) dX0_waves_21) (fun t7 hF => ?_)
    refine x_cast X hF rfl q1011 dX0_waves_24 (fun hF => ?_)
    refine xg_X0_153 X hF dX0_waves_27 (fun t8 hF => ?_)
    refine g_iconst K dX0_waves_30 lc_m1 ?_
    refine g_icmp_ne (tgt := 46) K hF dX0_waves_31 (by decide) (fun hF => ?_) (fun hF => ?_)
    · refine g_bipush K dX0_waves_46 lb_m2 ?_
      exact x_iretW X hF ha dX0_waves_48
    · refine g_aload_n (i := 0) K hl dX0_waves_34 rfl rfl ?_
      refine xg_X0_12 X hF dX0_waves_35 (fun t9 hF => ?_)
      refine g_iload_n (i := 2) K hl dX0_waves_38 rfl rfl ?_
      refine g_iload_n (i := 3) K hl dX0_waves_39 rfl rfl ?_
      have hlZ := hl
      obtain ⟨q10, hq9, ht_q10, hZ⟩ := nnX_i hF
      cases hq9
      have hF := hZ
      clear hZ
      have hl := hlZ
      clear hlZ
      refine x_callP (V := Value.int) hF (fun t h => x_rV X hl (w_X1_isCell _ _ _ _ t h) ht_q10 rfl rfl cpx_X1_isCell q1406 rfl rfl rfl rfl (cat_room rfl) dX0_waves_40) (fun t11 hF => ?_)
      refine g_if_ne (tgt := 49) K hF dX0_waves_43 (by decide) (fun hF => ?_) (fun hF => ?_)
      · refine g_aload_n (i := 0) K hl dX0_waves_49 rfl rfl ?_
        refine xg_X0_12 X hF dX0_waves_50 (fun t12 hF => ?_)
        have hlZ := hl
        obtain ⟨q13, hq9, ht_q13, hZ⟩ := nnX_i hF
        cases hq9
        have hF := hZ
        clear hZ
        have hl := hlZ
        clear hlZ
        refine x_callW (V := va_rf) hF ha rfl (fun t h => x_rV X hl (w_X1_keep G _ _  t h) ht_q13 rfl rfl cpx_X1_keep q1170 rfl rfl rfl rfl (cat_room rfl) dX0_waves_53) (fun t14 σ15 hF ha => ?_)
        refine g_astoreR (i := 4) K hl dX0_waves_56 rfl rfl (fun ls hl => ?_)
        refine g_iconst K dX0_waves_58 lc_m1 ?_
        refine g_istore (i := 5) K hl dX0_waves_59 rfl (lkn_rf rfl) (fun ls hl => ?_)
        refine g_iconst K dX0_waves_61 lc_1 ?_
        refine g_istore (i := 6) K hl dX0_waves_62 rfl rfl (fun ls hl => ?_)
        refine g_iconst K dX0_waves_64 lc_0 ?_
        refine g_istore (i := 7) K hl dX0_waves_65 rfl rfl (fun ls hl => ?_)
        exact L67  G _ _ _ _ _ _ _ _ ls hF ha (lq_sub hl rfl)
      · refine g_bipush K dX0_waves_46 lb_m2 ?_
        exact x_iretW X hF ha dX0_waves_48
