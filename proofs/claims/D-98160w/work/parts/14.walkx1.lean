/-! walks of the component: printed by genx.py -/
theorem cpx_X1_can : cpV yX1_can cX1_can 4 (some .boolean) 3 := ⟨q1030, q1031, q146, q1032, by decide +kernel⟩
set_option maxHeartbeats 4000000 in
set_option maxRecDepth 100000 in
theorem w_X1_can {l : Launch} {D : va_G} {cx ro : Nat → Nat} {A : Nat → Prop} {TL SL : Nat} (G : Nat) (σ0 : XS) (th : Nat) (a0 : Option Nat) (a1 : Option Nat) (a2 : Int32) (r : Int32) (hF : X_X1_can ro G σ0 th a0 a1 a2 = some r) : xMet l D cx ro A TL SL yX1_can cX1_can 4 (some .boolean) 5 false wx_X1_can [.ref th, va_rf a0, va_rf a1, .int a2] σ0 (some (.int r)) σ0 := by
  refine x_of (l9 := [(0, some (.ref th)), (1, some (va_rf a0)), (2, some (va_rf a1)), (3, some (.int a2))]) (by decide) (by cases a0 <;> cases a1 <;> exact Nat.le_of_ble_eq_true rfl) (by cases a0 <;> cases a1 <;> rfl) ?_
  intro p e s m args below meth c ls X K hnm hl hlm
  unfold X_X1_can at hF
  refine g_aloadR_n (i := 2) K hl dX1_can_0 rfl rfl ?_
  refine xg_X1_73 X hF dX1_can_1 (fun t1 hF => ?_)
  refine g_iconst K dX1_can_4 lc_m1 ?_
  refine g_icmp_ne (tgt := 53) K hF dX1_can_5 (by decide) (fun hF => ?_) (fun hF => ?_)
  · refine g_iconst K dX1_can_53 lc_0 ?_
    exact x_zretP X hF (Or.inl rfl) agW.rf dX1_can_54
  · refine g_aloadR_n (i := 1) K hl dX1_can_8 rfl rfl ?_
    refine g_aloadR_n (i := 2) K hl dX1_can_9 rfl rfl ?_
    have hlZ := hl
    obtain ⟨q2, hq9, ht_q2, hZ⟩ := nnX_i hF
    cases hq9
    have hF := hZ
    clear hZ
    have hl := hlZ
    clear hlZ
    refine x_callP (V := Value.int) hF (fun t h => x_rV X hl (w_X14_far _ _ _ t h) ht_q2 rfl rfl cpx_X14_far q1033 rfl rfl rfl rfl (cat_room rfl) dX1_can_10) (fun t3 hF => ?_)
    refine g_aloadR_n (i := 1) K hl dX1_can_13 rfl rfl ?_
    refine xg_X1_162 X hF dX1_can_14 (fun t4 hF => ?_)
    refine g_icmp_gt (tgt := 53) K hF dX1_can_17 (by decide) (fun hF => ?_) (fun hF => ?_)
    · refine g_iconst K dX1_can_53 lc_0 ?_
      exact x_zretP X hF (Or.inl rfl) agW.rf dX1_can_54
    · refine g_aloadR_n (i := 1) K hl dX1_can_20 rfl rfl ?_
      refine xg_X1_144 X hF dX1_can_21 (fun t5 hF => ?_)
      refine x_getsN (j := 0) X rfl (List.mem_of_getElem? (i := 53) rfl) dX1_can_24 ?_
      refine g_iload_n (i := 3) K hl dX1_can_27 rfl rfl ?_
      refine x_aald X hF dX1_can_28 (fun t6 hF => ?_)
      refine x_callP (V := Value.int) hF (fun t h => xr_v_Try_breath X hl (w_v_Try_breath _ _  t h) q1043 rfl rfl (cat_room rfl) dX1_can_29) (fun t7 hF => ?_)
      refine g_icmp_lt (tgt := 53) K hF dX1_can_32 (by decide) (fun hF => ?_) (fun hF => ?_)
      · refine g_iconst K dX1_can_53 lc_0 ?_
        exact x_zretP X hF (Or.inl rfl) agW.rf dX1_can_54
      · refine x_getsN (j := 0) X rfl (List.mem_of_getElem? (i := 53) rfl) dX1_can_35 ?_
        refine g_iload_n (i := 3) K hl dX1_can_38 rfl rfl ?_
        refine x_aald X hF dX1_can_39 (fun t8 hF => ?_)
        refine g_aload_n (i := 0) K hl dX1_can_40 rfl rfl ?_
        refine g_aloadR_n (i := 1) K hl dX1_can_41 rfl rfl ?_
        refine g_aloadR_n (i := 2) K hl dX1_can_42 rfl rfl ?_
        refine x_callP (V := Value.int) hF (fun t h => xr_v_Try_suits X hl (w_v_Try_suits G _ _ _ _ _ t h) q1059 rfl rfl (cat_room rfl) dX1_can_43) (fun t9 hF => ?_)
        refine g_if_eq (tgt := 53) K hF dX1_can_46 (by decide) (fun hF => ?_) (fun hF => ?_)
        · refine g_iconst K dX1_can_53 lc_0 ?_
          exact x_zretP X hF (Or.inl rfl) agW.rf dX1_can_54
        · refine g_iconst K dX1_can_49 lc_1 ?_
          refine g_goto (tgt := 54) K dX1_can_50 (by decide) ?_
          exact x_zretP X hF (Or.inr rfl) agW.rf dX1_can_54

theorem cpx_X0_isTry : cpV yX0_isTry cX0_isTry 4 (some .boolean) 3 := ⟨q1027, qs40, q145, q1028, by decide +kernel⟩
set_option maxHeartbeats 4000000 in
set_option maxRecDepth 100000 in
theorem w_X0_isTry {l : Launch} {D : va_G} {cx ro : Nat → Nat} {A : Nat → Prop} {TL SL : Nat} (G : Nat) (σ0 : XS) (th : Nat) (a0 : Int32) (a1 : Int32) (a2 : Int32) (r : Int32) (hF : X_X0_isTry ro G σ0 th a0 a1 a2 = some r) : xMet l D cx ro A TL SL yX0_isTry cX0_isTry 4 (some .boolean) 6 false wx_X0_isTry [.ref th, .int a0, .int a1, .int a2] σ0 (some (.int r)) σ0 := by
  refine x_of (l9 := [(0, some (.ref th)), (1, some (.int a0)), (2, some (.int a1)), (3, some (.int a2))]) (by decide) (by exact Nat.le_of_ble_eq_true rfl) (by rfl) ?_
  intro p e s m args below meth c ls X K hnm hl hlm
  unfold X_X0_isTry at hF
  refine g_aload_n (i := 0) K hl dX0_isTry_0 rfl rfl ?_
  refine g_iload_n (i := 1) K hl dX0_isTry_1 rfl rfl ?_
  have hlZ := hl
  obtain ⟨q1, hq9, ht_q1, hZ⟩ := nnX_i hF
  cases hq9
  have hF := hZ
  clear hZ
  have hl := hlZ
  clear hlZ
  refine x_callP (V := Value.int) hF (fun t h => x_rV X hl (w_X0_isBobber _ _ _ t h) ht_q1 rfl rfl cpx_X0_isBobber q1016 rfl rfl rfl rfl (cat_room rfl) dX0_isTry_2) (fun t2 hF => ?_)
  refine g_if_eq (tgt := 68) K hF dX0_isTry_5 (by decide) (fun hF => ?_) (fun hF => ?_)
  · refine g_iconst K dX0_isTry_68 lc_0 ?_
    exact x_zretP X hF (Or.inl rfl) agW.rf dX0_isTry_69
  · refine g_aload_n (i := 0) K hl dX0_isTry_8 rfl rfl ?_
    refine g_iload_n (i := 2) K hl dX0_isTry_9 rfl rfl ?_
    have hlZ := hl
    obtain ⟨q3, hq9, ht_q3, hZ⟩ := nnX_i hF
    cases hq9
    have hF := hZ
    clear hZ
    have hl := hlZ
    clear hlZ
    refine x_callP (V := Value.int) hF (fun t h => x_rV X hl (w_X0_isApple _ _ _ t h) ht_q3 rfl rfl cpx_X0_isApple q1003 rfl rfl rfl rfl (cat_room rfl) dX0_isTry_10) (fun t4 hF => ?_)
    refine g_if_eq (tgt := 68) K hF dX0_isTry_13 (by decide) (fun hF => ?_) (fun hF => ?_)
    · refine g_iconst K dX0_isTry_68 lc_0 ?_
      exact x_zretP X hF (Or.inl rfl) agW.rf dX0_isTry_69
    · refine g_iload_n (i := 3) K hl dX0_isTry_16 rfl rfl ?_
      refine g_iconst K dX0_isTry_17 lc_0 ?_
      refine g_iconst K dX0_isTry_18 lc_4 ?_
      refine x_callP (V := Value.int) hF (fun t h => x_rS X hl (w_X0_isIn _ _ _ _ t h) cpx_X0_isIn q1007 rfl rfl rfl rfl (cat_room rfl) dX0_isTry_19) (fun t5 hF => ?_)
      refine g_if_eq (tgt := 68) K hF dX0_isTry_22 (by decide) (fun hF => ?_) (fun hF => ?_)
      · refine g_iconst K dX0_isTry_68 lc_0 ?_
        exact x_zretP X hF (Or.inl rfl) agW.rf dX0_isTry_69
      · refine g_aload_n (i := 0) K hl dX0_isTry_25 rfl rfl ?_
        refine xg_X0_12 X hF dX0_isTry_26 (fun t6 hF => ?_)
        refine g_aload_n (i := 0) K hl dX0_isTry_29 rfl rfl ?_
        refine xg_X0_12 X hF dX0_isTry_30 (fun t7 hF => ?_)
        refine xg_X0_94 X hF dX0_isTry_33 (fun t8 hF => ?_)
        refine g_iload_n (i := 1) K hl dX0_isTry_36 rfl rfl ?_
        have hlZ := hl
        obtain ⟨q9, hq9, ht_q9, hZ⟩ := nnX_i hF
        cases hq9
        have hF := hZ
        clear hZ
        have hl := hlZ
        clear hlZ
        refine x_callP (V := va_rf) hF (fun t h => x_rV X hl (w_J2_get _ _ _ t h) ht_q9 rfl rfl cpx_J2_get q1010 rfl rfl rfl rfl (cat_room rfl) dX0_isTry_37) (fun t10 hF => ?_)
        refine x_cast X hF rfl q1020 dX0_isTry_40 (fun hF => ?_)
        refine g_aload_n (i := 0) K hl dX0_isTry_43 rfl rfl ?_
        refine xg_X0_12 X hF dX0_isTry_44 (fun t11 hF => ?_)
        refine xg_X0_87 X hF dX0_isTry_47 (fun t12 hF => ?_)
        refine g_iload_n (i := 2) K hl dX0_isTry_50 rfl rfl ?_
        have hlZ := hl
        obtain ⟨q13, hq9, ht_q13, hZ⟩ := nnX_i hF
        cases hq9
        have hF := hZ
        clear hZ
        have hl := hlZ
        clear hlZ
        refine x_callP (V := va_rf) hF (fun t h => x_rV X hl (w_J2_get _ _ _ t h) ht_q13 rfl rfl cpx_J2_get q1010 rfl rfl rfl rfl (cat_room rfl) dX0_isTry_51) (fun t14 hF => ?_)
        refine x_cast X hF rfl q1011 dX0_isTry_54 (fun hF => ?_)
        refine g_iload_n (i := 3) K hl dX0_isTry_57 rfl rfl ?_
        have hlZ := hl
        obtain ⟨q15, hq9, ht_q15, hZ⟩ := nnX_i hF
        cases hq9
        have hF := hZ
        clear hZ
        have hl := hlZ
        clear hlZ
        refine x_callP (V := Value.int) hF (fun t h => x_rV X hl (w_X1_can G _ _ _ _ _ t h) ht_q15 rfl rfl cpx_X1_can q1029 rfl rfl rfl rfl (cat_room rfl) dX0_isTry_58) (fun t16 hF => ?_)
        refine g_if_eq (tgt := 68) K hF dX0_isTry_61 (by decide) (fun hF => ?_) (fun hF => ?_)
        · refine g_iconst K dX0_isTry_68 lc_0 ?_
          exact x_zretP X hF (Or.inl rfl) agW.rf dX0_isTry_69
        · refine g_iconst K dX0_isTry_64 lc_1 ?_
          refine g_goto (tgt := 69) K dX0_isTry_65 (by decide) ?_
          exact x_zretP X hF (Or.inr rfl) agW.rf dX0_isTry_69

theorem cpx_X1_tell : cpV yX1_tell cX1_tell 3 none 2 := ⟨q1105, qs41, q146, q1106, by decide +kernel⟩
set_option maxHeartbeats 4000000 in
set_option maxRecDepth 100000 in
theorem w_X1_tell {l : Launch} {D : va_G} {cx ro : Nat → Nat} {A : Nat → Prop} {TL SL : Nat}  (σ0 : XS) (th : Nat) (a0 : Option Nat) (a1 : Option Nat) (r : XS) (hF : X_X1_tell σ0 th a0 a1 = some r) : xMet l D cx ro A TL SL yX1_tell cX1_tell 3 none 2 false wx_X1_tell [.ref th, va_rf a0, va_rf a1] σ0 none r := by
  refine x_of (l9 := [(0, some (.ref th)), (1, some (va_rf a0)), (2, some (va_rf a1))]) (by decide) (by cases a0 <;> cases a1 <;> exact Nat.le_of_ble_eq_true rfl) (by cases a0 <;> cases a1 <;> rfl) ?_
  intro p e s m args below meth c ls X K hnm hl hlm
  have L75 : ∀ (σ : XS) (x1 : Option Nat) (x2 : Option Nat) (s0 : Option Nat) (s1 : Int32) (s2 : Int32) (ls : Array Slot), X_X1_tell_L75 th  σ x1 x2 s0 s1 s2 = some r → agW false wx_X1_tell σ0 σ → lq ls 3 [(0, some (.ref th)), (1, some (va_rf x1)), (2, some (va_rf x2))] → ZX p l e 2 TL SL s m args below meth c D cx ro A false wx_X1_tell σ0 none r σ (F0 m 75 ls [.int s2, .int s1, va_rf s0]) := by
    intro  σ x1 x2 s0 s1 s2 ls hF ha hl
    unfold X_X1_tell_L75 at hF
    refine x_iast X hF ha rfl dX1_tell_75 (fun σ1 hF ha => ?_)
    refine g_aload_n (i := 0) K hl dX1_tell_76 rfl rfl ?_
    refine xg_X1_37 X hF dX1_tell_77 (fun t2 hF => ?_)
    refine xg_X1_118 X hF dX1_tell_80 (fun t3 hF => ?_)
    refine g_iconst K dX1_tell_83 lc_4 ?_
    refine g_aloadR_n (i := 1) K hl dX1_tell_84 rfl rfl ?_
    refine g_aloadR_n (i := 2) K hl dX1_tell_85 rfl rfl ?_
    have hlZ := hl
    obtain ⟨q4, hq9, ht_q4, hZ⟩ := nnX_i hF
    cases hq9
    have hF := hZ
    clear hZ
    have hl := hlZ
    clear hlZ
    refine x_callP (V := Value.int) hF (fun t h => x_rV X hl (w_X14_far _ _ _ t h) ht_q4 rfl rfl cpx_X14_far q1033 rfl rfl rfl rfl (cat_room rfl) dX1_tell_86) (fun t5 hF => ?_)
    refine x_iast X hF ha rfl dX1_tell_89 (fun σ6 hF ha => ?_)
    refine g_aload_n (i := 0) K hl dX1_tell_90 rfl rfl ?_
    refine xg_X1_37 X hF dX1_tell_91 (fun t7 hF => ?_)
    refine xg_X1_118 X hF dX1_tell_94 (fun t8 hF => ?_)
    refine g_iconst K dX1_tell_97 lc_5 ?_
    refine g_aloadR_n (i := 2) K hl dX1_tell_98 rfl rfl ?_
    refine xg_X1_138 X hF dX1_tell_99 (fun t9 hF => ?_)
    refine x_iast X hF ha rfl dX1_tell_102 (fun σ10 hF ha => ?_)
    refine g_aload_n (i := 0) K hl dX1_tell_103 rfl rfl ?_
    refine xg_X1_37 X hF dX1_tell_104 (fun t11 hF => ?_)
    refine xg_X1_118 X hF dX1_tell_107 (fun t12 hF => ?_)
    refine g_bipush K dX1_tell_110 lb_6 ?_
    refine g_aloadR_n (i := 1) K hl dX1_tell_112 rfl rfl ?_
    refine xg_X1_141 X hF dX1_tell_113 (fun t13 hF => ?_)
    refine x_iast X hF ha rfl dX1_tell_116 (fun σ14 hF ha => ?_)
    refine g_aload_n (i := 0) K hl dX1_tell_117 rfl rfl ?_
    refine xg_X1_37 X hF dX1_tell_118 (fun t15 hF => ?_)
    refine xg_X1_118 X hF dX1_tell_121 (fun t16 hF => ?_)
    refine g_bipush K dX1_tell_124 lb_7 ?_
    refine g_aloadR_n (i := 1) K hl dX1_tell_126 rfl rfl ?_
    refine xg_X1_144 X hF dX1_tell_127 (fun t17 hF => ?_)
    refine x_iast X hF ha rfl dX1_tell_130 (fun σ18 hF ha => ?_)
    refine g_aload_n (i := 0) K hl dX1_tell_131 rfl rfl ?_
    refine xg_X1_37 X hF dX1_tell_132 (fun t19 hF => ?_)
    refine xg_X1_118 X hF dX1_tell_135 (fun t20 hF => ?_)
    refine g_bipush K dX1_tell_138 lb_8 ?_
    refine g_iconst K dX1_tell_140 lc_0 ?_
    refine x_iast X hF ha rfl dX1_tell_141 (fun σ21 hF ha => ?_)
    refine g_aload_n (i := 0) K hl dX1_tell_142 rfl rfl ?_
    refine xg_X1_37 X hF dX1_tell_143 (fun t22 hF => ?_)
    refine xg_X1_118 X hF dX1_tell_146 (fun t23 hF => ?_)
    refine g_bipush K dX1_tell_149 lb_9 ?_
    refine g_iconst K dX1_tell_151 lc_0 ?_
    refine x_iast X hF ha rfl dX1_tell_152 (fun σ24 hF ha => ?_)
    exact x_vretV X hF ha dX1_tell_153
  have L46 : ∀ (σ : XS) (x1 : Option Nat) (x2 : Option Nat) (s0 : Option Nat) (s1 : Int32) (s2 : Int32) (ls : Array Slot), X_X1_tell_L46 th  σ x1 x2 s0 s1 s2 = some r → agW false wx_X1_tell σ0 σ → lq ls 3 [(0, some (.ref th)), (1, some (va_rf x1)), (2, some (va_rf x2))] → ZX p l e 2 TL SL s m args below meth c D cx ro A false wx_X1_tell σ0 none r σ (F0 m 46 ls [.int s2, .int s1, va_rf s0]) := by
    intro  σ x1 x2 s0 s1 s2 ls hF ha hl
    unfold X_X1_tell_L46 at hF
    refine x_iast X hF ha rfl dX1_tell_46 (fun σ1 hF ha => ?_)
    refine g_aload_n (i := 0) K hl dX1_tell_47 rfl rfl ?_
    refine xg_X1_37 X hF dX1_tell_48 (fun t2 hF => ?_)
    refine xg_X1_118 X hF dX1_tell_51 (fun t3 hF => ?_)
    refine g_iconst K dX1_tell_54 lc_3 ?_
    refine g_aload_n (i := 0) K hl dX1_tell_55 rfl rfl ?_
    refine g_aloadR_n (i := 2) K hl dX1_tell_56 rfl rfl ?_
    refine xg_X1_76 X hF dX1_tell_57 (fun t4 hF => ?_)
    refine g_aloadR_n (i := 2) K hl dX1_tell_60 rfl rfl ?_
    refine xg_X1_79 X hF dX1_tell_61 (fun t5 hF => ?_)
    have hlZ := hl
    obtain ⟨q6, hq9, ht_q6, hZ⟩ := nnX_i hF
    cases hq9
    have hF := hZ
    clear hZ
    have hl := hlZ
    clear hlZ
    refine x_callP (V := Value.int) hF (fun t h => x_rV X hl (w_X1_isRim _ _ _ _ t h) ht_q6 rfl rfl cpx_X1_isRim q1107 rfl rfl rfl rfl (cat_room rfl) dX1_tell_64) (fun t7 hF => ?_)
    refine g_if_eq (tgt := 74) K hF dX1_tell_67 (by decide) (fun hF => ?_) (fun hF => ?_)
    · refine g_iconst K dX1_tell_74 lc_0 ?_
      exact L75  _ _ _ _ _ _ ls hF ha (lq_sub hl rfl)
    · refine g_iconst K dX1_tell_70 lc_1 ?_
      refine g_goto (tgt := 75) K dX1_tell_71 (by decide) ?_
      exact L75  _ _ _ _ _ _ ls hF ha (lq_sub hl rfl)
  have ha : agW false wx_X1_tell σ0 σ0 := agW.rf
  unfold X_X1_tell at hF
  refine g_aload_n (i := 0) K hl dX1_tell_0 rfl rfl ?_
  refine xg_X1_37 X hF dX1_tell_1 (fun t1 hF => ?_)
  refine xg_X1_118 X hF dX1_tell_4 (fun t2 hF => ?_)
  refine g_iconst K dX1_tell_7 lc_0 ?_
  refine g_aloadR_n (i := 2) K hl dX1_tell_8 rfl rfl ?_
  refine xg_X1_122 X hF dX1_tell_9 (fun t3 hF => ?_)
  refine x_iast X hF ha rfl dX1_tell_12 (fun σ4 hF ha => ?_)
  refine g_aload_n (i := 0) K hl dX1_tell_13 rfl rfl ?_
  refine xg_X1_37 X hF dX1_tell_14 (fun t5 hF => ?_)
  refine xg_X1_118 X hF dX1_tell_17 (fun t6 hF => ?_)
  refine g_iconst K dX1_tell_20 lc_1 ?_
  refine g_aloadR_n (i := 2) K hl dX1_tell_21 rfl rfl ?_
  refine xg_X1_124 X hF dX1_tell_22 (fun t7 hF => ?_)
  refine x_iast X hF ha rfl dX1_tell_25 (fun σ8 hF ha => ?_)
  refine g_aload_n (i := 0) K hl dX1_tell_26 rfl rfl ?_
  refine xg_X1_37 X hF dX1_tell_27 (fun t9 hF => ?_)
  refine xg_X1_118 X hF dX1_tell_30 (fun t10 hF => ?_)
  refine g_iconst K dX1_tell_33 lc_2 ?_
  refine g_aloadR_n (i := 2) K hl dX1_tell_34 rfl rfl ?_
  refine xg_X1_127 X hF dX1_tell_35 (fun t11 hF => ?_)
  refine g_if_eq (tgt := 45) K hF dX1_tell_38 (by decide) (fun hF => ?_) (fun hF => ?_)
  · refine g_iconst K dX1_tell_45 lc_0 ?_
    exact L46  _ _ _ _ _ _ ls hF ha (lq_sub hl rfl)
  · refine g_iconst K dX1_tell_41 lc_1 ?_
    refine g_goto (tgt := 46) K dX1_tell_42 (by decide) ?_
    exact L46  _ _ _ _ _ _ ls hF ha (lq_sub hl rfl)


set_option maxHeartbeats 4000000 in
set_option maxRecDepth 100000 in
theorem w_X9_of {l : Launch} {D : va_G} {cx ro : Nat → Nat} {A : Nat → Prop} {TL SL : Nat} (R_of : XS → Option Nat → Option Nat → Option Int32) (dR : Nat) (d9 : Nat) (hd9 : dR + 1 ≤ d9) (hR_of : ∀ (σ : XS) (q a0 : Option Nat) (r : Int32), R_of σ q a0 = some r → vm_v_Part_of l D cx ro A TL SL dR σ q a0 r) (σ0 : XS) (th : Nat) (a0 : Option Nat) (r : Int32) (hF : X_X9_of R_of σ0 th a0 = some r) : xMet l D cx ro A TL SL yX9_of cX9_of 2 (some .int) d9 false wx_X9_of [.ref th, va_rf a0] σ0 (some (.int r)) σ0 := by
  refine x_of (l9 := [(0, some (.ref th)), (1, some (va_rf a0))]) (by decide) (by cases a0 <;> exact Nat.le_of_ble_eq_true rfl) (by cases a0 <;> rfl) ?_
  intro p e s m args below meth c ls X K hnm hl hlm
  unfold X_X9_of at hF
  refine g_aload_n (i := 0) K hl dX9_of_0 rfl rfl ?_
  refine xg_X9_7 X hF dX9_of_1 (fun t1 hF => ?_)
  refine g_aloadR_n (i := 1) K hl dX9_of_4 rfl rfl ?_
  refine x_callP (V := Value.int) hF (fun t h => xr_v_Part_of X hl (hR_of _ _ _ t h) q1117 (ble_of (by omega)) rfl (cat_room rfl) dX9_of_5) (fun t2 hF => ?_)
  refine g_if_ne (tgt := 15) K hF dX9_of_8 (by decide) (fun hF => ?_) (fun hF => ?_)
  · refine g_iconst K dX9_of_15 lc_0 ?_
    exact x_iretP X hF agW.rf dX9_of_16
  · refine g_iconst K dX9_of_11 lc_1 ?_
    refine g_goto (tgt := 16) K dX9_of_12 (by decide) ?_
    exact x_iretP X hF agW.rf dX9_of_16


set_option maxHeartbeats 4000000 in
set_option maxRecDepth 100000 in
theorem w_X10_of {l : Launch} {D : va_G} {cx ro : Nat → Nat} {A : Nat → Prop} {TL SL : Nat}  (d9 : Nat) (hd9 : 1 ≤ d9) (σ0 : XS) (th : Nat) (a0 : Option Nat) (r : Int32) (hF : X_X10_of σ0 th a0 = some r) : xMet l D cx ro A TL SL yX10_of cX10_of 2 (some .int) d9 false wx_X10_of [.ref th, va_rf a0] σ0 (some (.int r)) σ0 := by
  refine x_of (l9 := [(0, some (.ref th)), (1, some (va_rf a0))]) (by decide) (by cases a0 <;> exact Nat.le_of_ble_eq_true rfl) (by cases a0 <;> rfl) ?_
  intro p e s m args below meth c ls X K hnm hl hlm
  unfold X_X10_of at hF
  refine g_aload_n (i := 0) K hl dX10_of_0 rfl rfl ?_
  refine xg_X10_7 X hF dX10_of_1 (fun t1 hF => ?_)
  exact x_iretP X hF agW.rf dX10_of_4


set_option maxHeartbeats 4000000 in
set_option maxRecDepth 100000 in
theorem w_X11_of {l : Launch} {D : va_G} {cx ro : Nat → Nat} {A : Nat → Prop} {TL SL : Nat}  (d9 : Nat) (hd9 : 1 ≤ d9) (σ0 : XS) (th : Nat) (a0 : Option Nat) (r : Int32) (hF : X_X11_of σ0 th a0 = some r) : xMet l D cx ro A TL SL yX11_of cX11_of 2 (some .int) d9 false wx_X11_of [.ref th, va_rf a0] σ0 (some (.int r)) σ0 := by
  refine x_of (l9 := [(0, some (.ref th)), (1, some (va_rf a0))]) (by decide) (by cases a0 <;> exact Nat.le_of_ble_eq_true rfl) (by cases a0 <;> rfl) ?_
  intro p e s m args below meth c ls X K hnm hl hlm
  unfold X_X11_of at hF
  refine g_aloadR_n (i := 1) K hl dX11_of_0 rfl rfl ?_
  refine xg_X11_13 X hF dX11_of_1 (fun t1 hF => ?_)
  refine g_aload_n (i := 0) K hl dX11_of_4 rfl rfl ?_
  refine xg_X11_7 X hF dX11_of_5 (fun t2 hF => ?_)
  refine x_iald X hF dX11_of_8 (fun t3 hF => ?_)
  exact x_iretP X hF agW.rf dX11_of_9

theorem cpx_X12_is : cpS yX12_is cX12_is 1 (some .int) 1 := ⟨q1124, q167, q1125, by decide +kernel⟩
set_option maxHeartbeats 4000000 in
set_option maxRecDepth 100000 in
theorem w_X12_is {l : Launch} {D : va_G} {cx ro : Nat → Nat} {A : Nat → Prop} {TL SL : Nat}  (σ0 : XS) (a0 : Int32) (r : Int32) (hF : X_X12_is σ0 a0 = some r) : xMet l D cx ro A TL SL yX12_is cX12_is 1 (some .int) 0 false wx_X12_is [.int a0] σ0 (some (.int r)) σ0 := by
  refine x_of (l9 := [(0, some (.int a0))]) (by decide) (by exact Nat.le_of_ble_eq_true rfl) (by rfl) ?_
  intro p e s m args below meth c ls X K hnm hl hlm
  unfold X_X12_is at hF
  refine g_iload_n (i := 0) K hl dX12_is_0 rfl rfl ?_
  refine g_if_eq (tgt := 8) K hF dX12_is_1 (by decide) (fun hF => ?_) (fun hF => ?_)
  · refine g_iconst K dX12_is_8 lc_0 ?_
    exact x_iretP X hF agW.rf dX12_is_9
  · refine g_iconst K dX12_is_4 lc_1 ?_
    refine g_goto (tgt := 9) K dX12_is_5 (by decide) ?_
    exact x_iretP X hF agW.rf dX12_is_9


set_option maxHeartbeats 4000000 in
set_option maxRecDepth 100000 in
theorem w_X12_of {l : Launch} {D : va_G} {cx ro : Nat → Nat} {A : Nat → Prop} {TL SL : Nat} (R_of : XS → Option Nat → Option Nat → Option Int32) (dR : Nat) (d9 : Nat) (hd9 : dR + 2 ≤ d9) (hR_of : ∀ (σ : XS) (q a0 : Option Nat) (r : Int32), R_of σ q a0 = some r → vm_v_Part_of l D cx ro A TL SL dR σ q a0 r) (σ0 : XS) (th : Nat) (a0 : Option Nat) (r : Int32) (hF : X_X12_of R_of σ0 th a0 = some r) : xMet l D cx ro A TL SL yX12_of cX12_of 4 (some .int) d9 false wx_X12_of [.ref th, va_rf a0] σ0 (some (.int r)) σ0 := by
  refine x_of (l9 := [(0, some (.ref th)), (1, some (va_rf a0))]) (by decide) (by cases a0 <;> exact Nat.le_of_ble_eq_true rfl) (by cases a0 <;> rfl) ?_
  intro p e s m args below meth c ls X K hnm hl hlm
  have L248 : ∀ (s0 : Int32) (ls : Array Slot), X_X12_of_L248 R_of σ0 th  s0 = some r → lq ls 4 [(0, some (.ref th))] → ZX p l e d9 TL SL s m args below meth c D cx ro A false wx_X12_of σ0 (some (.int r)) σ0 σ0 (F0 m 248 ls [.int s0]) := by
    intro  s0 ls hF hl
    unfold X_X12_of_L248 at hF
    refine x_callP (V := Value.int) hF (fun t h => x_rS X hl (w_X12_is _ _ t h) cpx_X12_is q1123 rfl (ble_of (by omega)) rfl rfl (cat_room rfl) dX12_of_248) (fun t1 hF => ?_)
    exact x_iretP X hF agW.rf dX12_of_251
  have L243 : ∀ (ls : Array Slot), X_X12_of_L243 R_of σ0 th   = some r → lq ls 4 [(0, some (.ref th))] → ZX p l e d9 TL SL s m args below meth c D cx ro A false wx_X12_of σ0 (some (.int r)) σ0 σ0 (F0 m 243 ls []) := by
    intro   ls hF hl
    unfold X_X12_of_L243 at hF
    refine g_iconst K dX12_of_243 lc_1 ?_
    refine g_goto (tgt := 248) K dX12_of_244 (by decide) ?_
    exact L248  _ ls hF (lq_sub hl rfl)
  have L231 : ∀ (s0 : Int32) (ls : Array Slot), X_X12_of_L231 R_of σ0 th  s0 = some r → lq ls 4 [(0, some (.ref th))] → ZX p l e d9 TL SL s m args below meth c D cx ro A false wx_X12_of σ0 (some (.int r)) σ0 σ0 (F0 m 231 ls [.int s0]) := by
    intro  s0 ls hF hl
    unfold X_X12_of_L231 at hF
    refine x_callP (V := Value.int) hF (fun t h => x_rS X hl (w_X12_is _ _ t h) cpx_X12_is q1123 rfl (ble_of (by omega)) rfl rfl (cat_room rfl) dX12_of_231) (fun t1 hF => ?_)
    exact x_iretP X hF agW.rf dX12_of_234
  have L230 : ∀ (ls : Array Slot), X_X12_of_L230 R_of σ0 th   = some r → lq ls 4 [(0, some (.ref th))] → ZX p l e d9 TL SL s m args below meth c D cx ro A false wx_X12_of σ0 (some (.int r)) σ0 σ0 (F0 m 230 ls []) := by
    intro   ls hF hl
    unfold X_X12_of_L230 at hF
    refine g_iconst K dX12_of_230 lc_0 ?_
    exact L231  _ ls hF (lq_sub hl rfl)
  have L214 : ∀ (s0 : Int32) (ls : Array Slot), X_X12_of_L214 R_of σ0 th  s0 = some r → lq ls 4 [(0, some (.ref th))] → ZX p l e d9 TL SL s m args below meth c D cx ro A false wx_X12_of σ0 (some (.int r)) σ0 σ0 (F0 m 214 ls [.int s0]) := by
    intro  s0 ls hF hl
    unfold X_X12_of_L214 at hF
    refine x_callP (V := Value.int) hF (fun t h => x_rS X hl (w_X12_is _ _ t h) cpx_X12_is q1123 rfl (ble_of (by omega)) rfl rfl (cat_room rfl) dX12_of_214) (fun t1 hF => ?_)
    exact x_iretP X hF agW.rf dX12_of_217
  have L200 : ∀ (s0 : Int32) (ls : Array Slot), X_X12_of_L200 R_of σ0 th  s0 = some r → lq ls 4 [(0, some (.ref th))] → ZX p l e d9 TL SL s m args below meth c D cx ro A false wx_X12_of σ0 (some (.int r)) σ0 σ0 (F0 m 200 ls [.int s0]) := by
    intro  s0 ls hF hl
    unfold X_X12_of_L200 at hF
    refine x_callP (V := Value.int) hF (fun t h => x_rS X hl (w_X12_is _ _ t h) cpx_X12_is q1123 rfl (ble_of (by omega)) rfl rfl (cat_room rfl) dX12_of_200) (fun t1 hF => ?_)
    exact x_iretP X hF agW.rf dX12_of_203
  have L186 : ∀ (s0 : Int32) (ls : Array Slot), X_X12_of_L186 R_of σ0 th  s0 = some r → lq ls 4 [(0, some (.ref th))] → ZX p l e d9 TL SL s m args below meth c D cx ro A false wx_X12_of σ0 (some (.int r)) σ0 σ0 (F0 m 186 ls [.int s0]) := by
    intro  s0 ls hF hl
    unfold X_X12_of_L186 at hF
    refine x_callP (V := Value.int) hF (fun t h => x_rS X hl (w_X12_is _ _ t h) cpx_X12_is q1123 rfl (ble_of (by omega)) rfl rfl (cat_room rfl) dX12_of_186) (fun t1 hF => ?_)
    exact x_iretP X hF agW.rf dX12_of_189
  unfold X_X12_of at hF
  refine g_aload_n (i := 0) K hl dX12_of_0 rfl rfl ?_
  refine xg_X12_13 X hF dX12_of_1 (fun t1 hF => ?_)
  refine g_aloadR_n (i := 1) K hl dX12_of_4 rfl rfl ?_
  refine x_callP (V := Value.int) hF (fun t h => xr_v_Part_of X hl (hR_of _ _ _ t h) q1122 (ble_of (by omega)) rfl (cat_room rfl) dX12_of_5) (fun t2 hF => ?_)
  refine g_istore_n (i := 2) K hl dX12_of_8 rfl rfl (lkn_rf rfl) (fun ls hl => ?_)
  refine g_aload_n (i := 0) K hl dX12_of_9 rfl rfl ?_
  refine xg_X12_17 X hF dX12_of_10 (fun t3 hF => ?_)
  refine g_aloadR_n (i := 1) K hl dX12_of_13 rfl rfl ?_
  refine x_callP (V := Value.int) hF (fun t h => xr_v_Part_of X hl (hR_of _ _ _ t h) q1122 (ble_of (by omega)) rfl (cat_room rfl) dX12_of_14) (fun t4 hF => ?_)
  refine g_istore_n (i := 3) K hl dX12_of_17 rfl rfl rfl (fun ls hl => ?_)
  refine g_aload_n (i := 0) K hl dX12_of_18 rfl rfl ?_
  refine xg_X12_7 X hF dX12_of_19 (fun t5 hF => ?_)
  refine g_tsw (tgt := 235) (lo32 := 37) (hi32 := 62) K hF dX12_of_22 rfl rfl (by decide) (fun hF => ?_) (fun hF => ?_)
  · refine g_iload_n (i := 2) K hl dX12_of_235 rfl rfl ?_
    refine g_if_ne (tgt := 243) K hF dX12_of_236 (by decide) (fun hF => ?_) (fun hF => ?_)
    · exact L243   ls hF (lq_sub hl rfl)
    · refine g_iload_n (i := 3) K hl dX12_of_239 rfl rfl ?_
      refine g_if_eq (tgt := 247) K hF dX12_of_240 (by decide) (fun hF => ?_) (fun hF => ?_)
      · refine g_iconst K dX12_of_247 lc_0 ?_
        exact L248  _ ls hF (lq_sub hl rfl)
      · exact L243   ls hF (lq_sub hl rfl)
  · obtain ⟨hlo, hhi, hF⟩ := hF
    rcases sw_eq hF with ⟨hv, hF⟩ | ⟨hv0, hF⟩
    · refine g_tin (tgt := 164) K dX12_of_22 hv rfl rfl (by decide) ?_
      refine g_iload_n (i := 3) K hl dX12_of_164 rfl rfl ?_
      refine g_if_ne (tgt := 172) K hF dX12_of_165 (by decide) (fun hF => ?_) (fun hF => ?_)
      · refine g_iload_n (i := 2) K hl dX12_of_172 rfl rfl ?_
        refine g_iload_n (i := 3) K hl dX12_of_173 rfl rfl ?_
        refine g_iremT K hF dX12_of_174 (fun t6 hF => ?_)
        exact x_iretP X hF agW.rf dX12_of_175
      · refine g_iconst K dX12_of_168 lc_0 ?_
        refine g_goto (tgt := 175) K dX12_of_169 (by decide) ?_
        exact x_iretP X hF agW.rf dX12_of_175
    rcases sw_eq hF with ⟨hv, hF⟩ | ⟨hv1, hF⟩
    · refine g_tin (tgt := 218) K dX12_of_22 hv rfl rfl (by decide) ?_
      refine g_iload_n (i := 2) K hl dX12_of_218 rfl rfl ?_
      refine g_if_eq (tgt := 230) K hF dX12_of_219 (by decide) (fun hF => ?_) (fun hF => ?_)
      · exact L230   ls hF (lq_sub hl rfl)
      · refine g_iload_n (i := 3) K hl dX12_of_222 rfl rfl ?_
        refine g_if_eq (tgt := 230) K hF dX12_of_223 (by decide) (fun hF => ?_) (fun hF => ?_)
        · exact L230   ls hF (lq_sub hl rfl)
        · refine g_iconst K dX12_of_226 lc_1 ?_
          refine g_goto (tgt := 231) K dX12_of_227 (by decide) ?_
          exact L231  _ ls hF (lq_sub hl rfl)
    rcases sw_eq hF with ⟨hv, hF⟩ | ⟨hv2, hF⟩
    · refine g_tin (tgt := 235) K dX12_of_22 hv rfl rfl (by decide) ?_
      refine g_iload_n (i := 2) K hl dX12_of_235 rfl rfl ?_
      refine g_if_ne (tgt := 243) K hF dX12_of_236 (by decide) (fun hF => ?_) (fun hF => ?_)
      · exact L243   ls hF (lq_sub hl rfl)
      · refine g_iload_n (i := 3) K hl dX12_of_239 rfl rfl ?_
        refine g_if_eq (tgt := 247) K hF dX12_of_240 (by decide) (fun hF => ?_) (fun hF => ?_)
        · refine g_iconst K dX12_of_247 lc_0 ?_
          exact L248  _ ls hF (lq_sub hl rfl)
        · exact L243   ls hF (lq_sub hl rfl)
    rcases sw_eq hF with ⟨hv, hF⟩ | ⟨hv3, hF⟩
    · refine g_tin (tgt := 235) K dX12_of_22 hv rfl rfl (by decide) ?_
      refine g_iload_n (i := 2) K hl dX12_of_235 rfl rfl ?_
      refine g_if_ne (tgt := 243) K hF dX12_of_236 (by decide) (fun hF => ?_) (fun hF => ?_)
      · exact L243   ls hF (lq_sub hl rfl)
      · refine g_iload_n (i := 3) K hl dX12_of_239 rfl rfl ?_
        refine g_if_eq (tgt := 247) K hF dX12_of_240 (by decide) (fun hF => ?_) (fun hF => ?_)
        · refine g_iconst K dX12_of_247 lc_0 ?_
          exact L248  _ ls hF (lq_sub hl rfl)
        · exact L243   ls hF (lq_sub hl rfl)
    rcases sw_eq hF with ⟨hv, hF⟩ | ⟨hv4, hF⟩
    · refine g_tin (tgt := 235) K dX12_of_22 hv rfl rfl (by decide) ?_
      refine g_iload_n (i := 2) K hl dX12_of_235 rfl rfl ?_
      refine g_if_ne (tgt := 243) K hF dX12_of_236 (by decide) (fun hF => ?_) (fun hF => ?_)
      · exact L243   ls hF (lq_sub hl rfl)
      · refine g_iload_n (i := 3) K hl dX12_of_239 rfl rfl ?_
        refine g_if_eq (tgt := 247) K hF dX12_of_240 (by decide) (fun hF => ?_) (fun hF => ?_)
        · refine g_iconst K dX12_of_247 lc_0 ?_
          exact L248  _ ls hF (lq_sub hl rfl)
        · exact L243   ls hF (lq_sub hl rfl)
    rcases sw_eq hF with ⟨hv, hF⟩ | ⟨hv5, hF⟩
    · refine g_tin (tgt := 148) K dX12_of_22 hv rfl rfl (by decide) ?_
      refine g_iload_n (i := 2) K hl dX12_of_148 rfl rfl ?_
      refine g_iload_n (i := 3) K hl dX12_of_149 rfl rfl ?_
      refine g_imul K dX12_of_150 ?_
      exact x_iretP X hF agW.rf dX12_of_151
    rcases sw_eq hF with ⟨hv, hF⟩ | ⟨hv6, hF⟩
    · refine g_tin (tgt := 140) K dX12_of_22 hv rfl rfl (by decide) ?_
      refine g_iload_n (i := 2) K hl dX12_of_140 rfl rfl ?_
      refine g_iload_n (i := 3) K hl dX12_of_141 rfl rfl ?_
      refine g_iadd K dX12_of_142 ?_
      exact x_iretP X hF agW.rf dX12_of_143
    rcases sw_eq hF with ⟨hv, hF⟩ | ⟨hv7, hF⟩
    · refine g_tin (tgt := 235) K dX12_of_22 hv rfl rfl (by decide) ?_
      refine g_iload_n (i := 2) K hl dX12_of_235 rfl rfl ?_
      refine g_if_ne (tgt := 243) K hF dX12_of_236 (by decide) (fun hF => ?_) (fun hF => ?_)
      · exact L243   ls hF (lq_sub hl rfl)
      · refine g_iload_n (i := 3) K hl dX12_of_239 rfl rfl ?_
        refine g_if_eq (tgt := 247) K hF dX12_of_240 (by decide) (fun hF => ?_) (fun hF => ?_)
        · refine g_iconst K dX12_of_247 lc_0 ?_
          exact L248  _ ls hF (lq_sub hl rfl)
        · exact L243   ls hF (lq_sub hl rfl)
    rcases sw_eq hF with ⟨hv, hF⟩ | ⟨hv8, hF⟩
    · refine g_tin (tgt := 144) K dX12_of_22 hv rfl rfl (by decide) ?_
      refine g_iload_n (i := 2) K hl dX12_of_144 rfl rfl ?_
      refine g_iload_n (i := 3) K hl dX12_of_145 rfl rfl ?_
      refine g_isub K dX12_of_146 ?_
      exact x_iretP X hF agW.rf dX12_of_147
    rcases sw_eq hF with ⟨hv, hF⟩ | ⟨hv9, hF⟩
    · refine g_tin (tgt := 235) K dX12_of_22 hv rfl rfl (by decide) ?_
      refine g_iload_n (i := 2) K hl dX12_of_235 rfl rfl ?_
      refine g_if_ne (tgt := 243) K hF dX12_of_236 (by decide) (fun hF => ?_) (fun hF => ?_)
      · exact L243   ls hF (lq_sub hl rfl)
      · refine g_iload_n (i := 3) K hl dX12_of_239 rfl rfl ?_
        refine g_if_eq (tgt := 247) K hF dX12_of_240 (by decide) (fun hF => ?_) (fun hF => ?_)
        · refine g_iconst K dX12_of_247 lc_0 ?_
          exact L248  _ ls hF (lq_sub hl rfl)
        · exact L243   ls hF (lq_sub hl rfl)
    rcases sw_eq hF with ⟨hv, hF⟩ | ⟨hv10, hF⟩
    · refine g_tin (tgt := 152) K dX12_of_22 hv rfl rfl (by decide) ?_
      refine g_iload_n (i := 3) K hl dX12_of_152 rfl rfl ?_
      refine g_if_ne (tgt := 160) K hF dX12_of_153 (by decide) (fun hF => ?_) (fun hF => ?_)
      · refine g_iload_n (i := 2) K hl dX12_of_160 rfl rfl ?_
        refine g_iload_n (i := 3) K hl dX12_of_161 rfl rfl ?_
        refine g_idivT K hF dX12_of_162 (fun t7 hF => ?_)
        exact x_iretP X hF agW.rf dX12_of_163
      · refine g_iconst K dX12_of_156 lc_0 ?_
        refine g_goto (tgt := 163) K dX12_of_157 (by decide) ?_
        exact x_iretP X hF agW.rf dX12_of_163
    rcases sw_eq hF with ⟨hv, hF⟩ | ⟨hv11, hF⟩
    · refine g_tin (tgt := 235) K dX12_of_22 hv rfl rfl (by decide) ?_
      refine g_iload_n (i := 2) K hl dX12_of_235 rfl rfl ?_
      refine g_if_ne (tgt := 243) K hF dX12_of_236 (by decide) (fun hF => ?_) (fun hF => ?_)
      · exact L243   ls hF (lq_sub hl rfl)
      · refine g_iload_n (i := 3) K hl dX12_of_239 rfl rfl ?_
        refine g_if_eq (tgt := 247) K hF dX12_of_240 (by decide) (fun hF => ?_) (fun hF => ?_)
        · refine g_iconst K dX12_of_247 lc_0 ?_
          exact L248  _ ls hF (lq_sub hl rfl)
        · exact L243   ls hF (lq_sub hl rfl)
    rcases sw_eq hF with ⟨hv, hF⟩ | ⟨hv12, hF⟩
    · refine g_tin (tgt := 235) K dX12_of_22 hv rfl rfl (by decide) ?_
      refine g_iload_n (i := 2) K hl dX12_of_235 rfl rfl ?_
      refine g_if_ne (tgt := 243) K hF dX12_of_236 (by decide) (fun hF => ?_) (fun hF => ?_)
      · exact L243   ls hF (lq_sub hl rfl)
      · refine g_iload_n (i := 3) K hl dX12_of_239 rfl rfl ?_
        refine g_if_eq (tgt := 247) K hF dX12_of_240 (by decide) (fun hF => ?_) (fun hF => ?_)
        · refine g_iconst K dX12_of_247 lc_0 ?_
          exact L248  _ ls hF (lq_sub hl rfl)
        · exact L243   ls hF (lq_sub hl rfl)
    rcases sw_eq hF with ⟨hv, hF⟩ | ⟨hv13, hF⟩
    · refine g_tin (tgt := 235) K dX12_of_22 hv rfl rfl (by decide) ?_
      refine g_iload_n (i := 2) K hl dX12_of_235 rfl rfl ?_
      refine g_if_ne (tgt := 243) K hF dX12_of_236 (by decide) (fun hF => ?_) (fun hF => ?_)
      · exact L243   ls hF (lq_sub hl rfl)
      · refine g_iload_n (i := 3) K hl dX12_of_239 rfl rfl ?_
        refine g_if_eq (tgt := 247) K hF dX12_of_240 (by decide) (fun hF => ?_) (fun hF => ?_)
        · refine g_iconst K dX12_of_247 lc_0 ?_
          exact L248  _ ls hF (lq_sub hl rfl)
        · exact L243   ls hF (lq_sub hl rfl)
    rcases sw_eq hF with ⟨hv, hF⟩ | ⟨hv14, hF⟩
    · refine g_tin (tgt := 235) K dX12_of_22 hv rfl rfl (by decide) ?_
      refine g_iload_n (i := 2) K hl dX12_of_235 rfl rfl ?_
      refine g_if_ne (tgt := 243) K hF dX12_of_236 (by decide) (fun hF => ?_) (fun hF => ?_)
      · exact L243   ls hF (lq_sub hl rfl)
      · refine g_iload_n (i := 3) K hl dX12_of_239 rfl rfl ?_
        refine g_if_eq (tgt := 247) K hF dX12_of_240 (by decide) (fun hF => ?_) (fun hF => ?_)
        · refine g_iconst K dX12_of_247 lc_0 ?_
          exact L248  _ ls hF (lq_sub hl rfl)
        · exact L243   ls hF (lq_sub hl rfl)
    rcases sw_eq hF with ⟨hv, hF⟩ | ⟨hv15, hF⟩
    · refine g_tin (tgt := 235) K dX12_of_22 hv rfl rfl (by decide) ?_
      refine g_iload_n (i := 2) K hl dX12_of_235 rfl rfl ?_
      refine g_if_ne (tgt := 243) K hF dX12_of_236 (by decide) (fun hF => ?_) (fun hF => ?_)
      · exact L243   ls hF (lq_sub hl rfl)
      · refine g_iload_n (i := 3) K hl dX12_of_239 rfl rfl ?_
        refine g_if_eq (tgt := 247) K hF dX12_of_240 (by decide) (fun hF => ?_) (fun hF => ?_)
        · refine g_iconst K dX12_of_247 lc_0 ?_
          exact L248  _ ls hF (lq_sub hl rfl)
        · exact L243   ls hF (lq_sub hl rfl)
    rcases sw_eq hF with ⟨hv, hF⟩ | ⟨hv16, hF⟩
    · refine g_tin (tgt := 235) K dX12_of_22 hv rfl rfl (by decide) ?_
      refine g_iload_n (i := 2) K hl dX12_of_235 rfl rfl ?_
      refine g_if_ne (tgt := 243) K hF dX12_of_236 (by decide) (fun hF => ?_) (fun hF => ?_)
      · exact L243   ls hF (lq_sub hl rfl)
      · refine g_iload_n (i := 3) K hl dX12_of_239 rfl rfl ?_
        refine g_if_eq (tgt := 247) K hF dX12_of_240 (by decide) (fun hF => ?_) (fun hF => ?_)
        · refine g_iconst K dX12_of_247 lc_0 ?_
          exact L248  _ ls hF (lq_sub hl rfl)
        · exact L243   ls hF (lq_sub hl rfl)
    rcases sw_eq hF with ⟨hv, hF⟩ | ⟨hv17, hF⟩
    · refine g_tin (tgt := 235) K dX12_of_22 hv rfl rfl (by decide) ?_
      refine g_iload_n (i := 2) K hl dX12_of_235 rfl rfl ?_
      refine g_if_ne (tgt := 243) K hF dX12_of_236 (by decide) (fun hF => ?_) (fun hF => ?_)
      · exact L243   ls hF (lq_sub hl rfl)
      · refine g_iload_n (i := 3) K hl dX12_of_239 rfl rfl ?_
        refine g_if_eq (tgt := 247) K hF dX12_of_240 (by decide) (fun hF => ?_) (fun hF => ?_)
        · refine g_iconst K dX12_of_247 lc_0 ?_
          exact L248  _ ls hF (lq_sub hl rfl)
        · exact L243   ls hF (lq_sub hl rfl)
    rcases sw_eq hF with ⟨hv, hF⟩ | ⟨hv18, hF⟩
    · refine g_tin (tgt := 235) K dX12_of_22 hv rfl rfl (by decide) ?_
      refine g_iload_n (i := 2) K hl dX12_of_235 rfl rfl ?_
      refine g_if_ne (tgt := 243) K hF dX12_of_236 (by decide) (fun hF => ?_) (fun hF => ?_)
      · exact L243   ls hF (lq_sub hl rfl)
      · refine g_iload_n (i := 3) K hl dX12_of_239 rfl rfl ?_
        refine g_if_eq (tgt := 247) K hF dX12_of_240 (by decide) (fun hF => ?_) (fun hF => ?_)
        · refine g_iconst K dX12_of_247 lc_0 ?_
          exact L248  _ ls hF (lq_sub hl rfl)
        · exact L243   ls hF (lq_sub hl rfl)
    rcases sw_eq hF with ⟨hv, hF⟩ | ⟨hv19, hF⟩
    · refine g_tin (tgt := 235) K dX12_of_22 hv rfl rfl (by decide) ?_
      refine g_iload_n (i := 2) K hl dX12_of_235 rfl rfl ?_
      refine g_if_ne (tgt := 243) K hF dX12_of_236 (by decide) (fun hF => ?_) (fun hF => ?_)
      · exact L243   ls hF (lq_sub hl rfl)
      · refine g_iload_n (i := 3) K hl dX12_of_239 rfl rfl ?_
        refine g_if_eq (tgt := 247) K hF dX12_of_240 (by decide) (fun hF => ?_) (fun hF => ?_)
        · refine g_iconst K dX12_of_247 lc_0 ?_
          exact L248  _ ls hF (lq_sub hl rfl)
        · exact L243   ls hF (lq_sub hl rfl)
    rcases sw_eq hF with ⟨hv, hF⟩ | ⟨hv20, hF⟩
    · refine g_tin (tgt := 235) K dX12_of_22 hv rfl rfl (by decide) ?_
      refine g_iload_n (i := 2) K hl dX12_of_235 rfl rfl ?_
      refine g_if_ne (tgt := 243) K hF dX12_of_236 (by decide) (fun hF => ?_) (fun hF => ?_)
      · exact L243   ls hF (lq_sub hl rfl)
      · refine g_iload_n (i := 3) K hl dX12_of_239 rfl rfl ?_
        refine g_if_eq (tgt := 247) K hF dX12_of_240 (by decide) (fun hF => ?_) (fun hF => ?_)
        · refine g_iconst K dX12_of_247 lc_0 ?_
          exact L248  _ ls hF (lq_sub hl rfl)
        · exact L243   ls hF (lq_sub hl rfl)
    rcases sw_eq hF with ⟨hv, hF⟩ | ⟨hv21, hF⟩
    · refine g_tin (tgt := 235) K dX12_of_22 hv rfl rfl (by decide) ?_
      refine g_iload_n (i := 2) K hl dX12_of_235 rfl rfl ?_
      refine g_if_ne (tgt := 243) K hF dX12_of_236 (by decide) (fun hF => ?_) (fun hF => ?_)
      · exact L243   ls hF (lq_sub hl rfl)
      · refine g_iload_n (i := 3) K hl dX12_of_239 rfl rfl ?_
        refine g_if_eq (tgt := 247) K hF dX12_of_240 (by decide) (fun hF => ?_) (fun hF => ?_)
        · refine g_iconst K dX12_of_247 lc_0 ?_
          exact L248  _ ls hF (lq_sub hl rfl)
        · exact L243   ls hF (lq_sub hl rfl)
    rcases sw_eq hF with ⟨hv, hF⟩ | ⟨hv22, hF⟩
    · refine g_tin (tgt := 235) K dX12_of_22 hv rfl rfl (by decide) ?_
      refine g_iload_n (i := 2) K hl dX12_of_235 rfl rfl ?_
      refine g_if_ne (tgt := 243) K hF dX12_of_236 (by decide) (fun hF => ?_) (fun hF => ?_)
      · exact L243   ls hF (lq_sub hl rfl)
      · refine g_iload_n (i := 3) K hl dX12_of_239 rfl rfl ?_
        refine g_if_eq (tgt := 247) K hF dX12_of_240 (by decide) (fun hF => ?_) (fun hF => ?_)
        · refine g_iconst K dX12_of_247 lc_0 ?_
          exact L248  _ ls hF (lq_sub hl rfl)
        · exact L243   ls hF (lq_sub hl rfl)
    rcases sw_eq hF with ⟨hv, hF⟩ | ⟨hv23, hF⟩
    · refine g_tin (tgt := 176) K dX12_of_22 hv rfl rfl (by decide) ?_
      refine g_iload_n (i := 2) K hl dX12_of_176 rfl rfl ?_
      refine g_iload_n (i := 3) K hl dX12_of_177 rfl rfl ?_
      refine g_icmp_ge (tgt := 185) K hF dX12_of_178 (by decide) (fun hF => ?_) (fun hF => ?_)
      · refine g_iconst K dX12_of_185 lc_0 ?_
        exact L186  _ ls hF (lq_sub hl rfl)
      · refine g_iconst K dX12_of_181 lc_1 ?_
        refine g_goto (tgt := 186) K dX12_of_182 (by decide) ?_
        exact L186  _ ls hF (lq_sub hl rfl)
    rcases sw_eq hF with ⟨hv, hF⟩ | ⟨hv24, hF⟩
    · refine g_tin (tgt := 204) K dX12_of_22 hv rfl rfl (by decide) ?_
      refine g_iload_n (i := 2) K hl dX12_of_204 rfl rfl ?_
      refine g_iload_n (i := 3) K hl dX12_of_205 rfl rfl ?_
      refine g_icmp_ne (tgt := 213) K hF dX12_of_206 (by decide) (fun hF => ?_) (fun hF => ?_)
      · refine g_iconst K dX12_of_213 lc_0 ?_
        exact L214  _ ls hF (lq_sub hl rfl)
      · refine g_iconst K dX12_of_209 lc_1 ?_
        refine g_goto (tgt := 214) K dX12_of_210 (by decide) ?_
        exact L214  _ ls hF (lq_sub hl rfl)
    have hv := sw_last26 hlo hhi hv0 hv1 hv2 hv3 hv4 hv5 hv6 hv7 hv8 hv9 hv10 hv11 hv12 hv13 hv14 hv15 hv16 hv17 hv18 hv19 hv20 hv21 hv22 hv23 hv24
    refine g_tin (tgt := 190) K dX12_of_22 hv rfl rfl (by decide) ?_
    refine g_iload_n (i := 2) K hl dX12_of_190 rfl rfl ?_
    refine g_iload_n (i := 3) K hl dX12_of_191 rfl rfl ?_
    refine g_icmp_le (tgt := 199) K hF dX12_of_192 (by decide) (fun hF => ?_) (fun hF => ?_)
    · refine g_iconst K dX12_of_199 lc_0 ?_
      exact L200  _ ls hF (lq_sub hl rfl)
    · refine g_iconst K dX12_of_195 lc_1 ?_
      refine g_goto (tgt := 200) K dX12_of_196 (by decide) ?_
      exact L200  _ ls hF (lq_sub hl rfl)

def vm_v_Part_of (l : Launch) (D : va_G) (cx ro : Nat → Nat) (A : Nat → Prop) (TL SL : Nat) (d9 : Nat) (σ : XS) (r : Option Nat) (a0 : Option Nat) (z : Int32) : Prop := ∃ q, r = some q ∧ ((tg σ q = 9 ∧ xMet l D cx ro A TL SL yX9_of cX9_of 2 (some .int) d9 false wx_X9_of [.ref q, va_rf a0] σ (some (.int z)) σ) ∨ (tg σ q = 10 ∧ xMet l D cx ro A TL SL yX10_of cX10_of 2 (some .int) d9 false wx_X10_of [.ref q, va_rf a0] σ (some (.int z)) σ) ∨ (tg σ q = 11 ∧ xMet l D cx ro A TL SL yX11_of cX11_of 2 (some .int) d9 false wx_X11_of [.ref q, va_rf a0] σ (some (.int z)) σ) ∨ (tg σ q = 12 ∧ xMet l D cx ro A TL SL yX12_of cX12_of 4 (some .int) d9 false wx_X12_of [.ref q, va_rf a0] σ (some (.int z)) σ))
set_option maxHeartbeats 4000000 in
theorem w_v_Part_of {l : Launch} {D : va_G} {cx ro : Nat → Nat} {A : Nat → Prop} {TL SL : Nat} (D9 : Nat) : ∀ (σ : XS) (r : Option Nat) (a0 : Option Nat) (z : Int32), X_v_Part_of D9 σ r a0 = some z → vm_v_Part_of l D cx ro A TL SL (3 * D9) σ r a0 z := by
  induction D9 with
  | zero => intro σ r a0 z hF; exact absurd hF (fun h => by cases h)
  | succ D9 ih =>
    intro σ r a0 z hF
    have hF : X_v_Part_of_F (X_v_Part_of D9) σ r a0 = some z := hF
    unfold X_v_Part_of_F at hF
    cases r with
    | none => exact absurd hF (fun h => by cases h)
    | some q =>
      refine ⟨q, rfl, ?_⟩
      dsimp only at hF
      by_cases ht : tg σ q = 9
      · rw [if_pos ht] at hF
        exact Or.inl ⟨ht, w_X9_of (X_v_Part_of D9) (3 * D9) (3 * (D9 + 1)) (by omega) ih _ _ _ _ hF⟩
      rw [if_neg ht] at hF
      by_cases ht : tg σ q = 10
      · rw [if_pos ht] at hF
        exact Or.inr (Or.inl ⟨ht, w_X10_of (3 * (D9 + 1)) (by omega) _ _ _ _ hF⟩)
      rw [if_neg ht] at hF
      by_cases ht : tg σ q = 11
      · rw [if_pos ht] at hF
        exact Or.inr (Or.inr (Or.inl ⟨ht, w_X11_of (3 * (D9 + 1)) (by omega) _ _ _ _ hF⟩))
      rw [if_neg ht] at hF
      by_cases ht : tg σ q = 12
      · rw [if_pos ht] at hF
        exact Or.inr (Or.inr (Or.inr (⟨ht, w_X12_of (X_v_Part_of D9) (3 * D9) (3 * (D9 + 1)) (by omega) ih _ _ _ _ hF⟩)))
      rw [if_neg ht] at hF
      exact absurd hF (fun h => by cases h)

theorem cpu_v_Part_of_9 : cpU "TubBites$Not" ({ cls := "TubBites$Part", name := "of", desc := "(LTubBites$Told;)I" } : MethodName) yX9_of cX9_of 2 (some .int) 1 := ⟨q1110, q1114, q1115, q164, q1116, by decide +kernel⟩
theorem cpu_v_Part_of_10 : cpU "TubBites$Numeral" ({ cls := "TubBites$Part", name := "of", desc := "(LTubBites$Told;)I" } : MethodName) yX10_of cX10_of 2 (some .int) 1 := ⟨q1110, q1126, q1118, q165, q1119, by decide +kernel⟩
theorem cpu_v_Part_of_11 : cpU "TubBites$Named" ({ cls := "TubBites$Part", name := "of", desc := "(LTubBites$Told;)I" } : MethodName) yX11_of cX11_of 2 (some .int) 1 := ⟨q1110, q1111, q1112, q166, q1113, by decide +kernel⟩
theorem cpu_v_Part_of_12 : cpU "TubBites$Two" ({ cls := "TubBites$Part", name := "of", desc := "(LTubBites$Told;)I" } : MethodName) yX12_of cX12_of 4 (some .int) 1 := ⟨q1110, q1127, q1120, q167, q1121, by decide +kernel⟩
set_option maxHeartbeats 4000000 in
theorem xr_v_Part_of {p : Program} {l : Launch} {e : Env} {s : State} {m : MethodId} {args : Array Value} {below : List Frame} {meth : Method} {c : Code} {cc : ByteArray} {nL : Nat} {own : String} {D : va_G} {cx ro : Nat → Nat} {A : Nat → Prop} {ret : Option FieldType} {ls : Array Slot} {lq0 : List (Nat × Option Value)} {pc : Nat} {rest st : List Value} {TL SL t0 s0 : Nat} {d9 : Nat} {d index : Nat} {σ : XS} {r : Option Nat} {a0 : Option Nat} {z : Int32} (X : XX p m c cc nL s args meth D cx ro A ret own) (h : lq ls nL lq0) (hM : vm_v_Part_of l D cx ro A TL SL d9 σ r a0 z) (hq : Cond.methodLink own index ({ cls := "TubBites$Part", name := "of", desc := "(LTubBites$Told;)I" } : MethodName) ∈ lw_all) (hd1 : Nat.ble (d9 + 1) d = true) (hst : st = [va_rf a0].reverse ++ va_rf r :: rest) (hroom : (rest.map fun v => v.category).sum ≤ 8) (dec : decode cc pc = .ok (.invokevirtual index, 3)) :
    RunX p l e (xRoom d (TL - t0) (SL - s0)) s m args below meth c D cx ro A TL SL t0 s0 (F0 m pc ls st) rest false wx_v_Part_of σ (some (.int z)) σ ((va_rf r) :: [va_rf a0]).toArray := by
  obtain ⟨q, rfl, hM⟩ := hM
  have hd1 := Nat.le_of_ble_eq_true hd1
  rcases hM with ⟨ht, hM⟩ | ⟨ht, hM⟩ | ⟨ht, hM⟩ | ⟨ht, hM⟩
  · exact (x_wk (n2 := false) (n3 := false) rfl (x_rU (As := [va_rf a0]) X h hM (rec_c X ht rfl rfl) cpu_v_Part_of_9 (va_Decl.abs (X.k.2.1 _ (List.mem_of_getElem? (i := 102) rfl))) hq rfl (ble_of (by omega)) rfl hst hroom dec))
  · exact (x_wk (n2 := false) (n3 := false) rfl (x_rU (As := [va_rf a0]) X h hM (rec_c X ht rfl rfl) cpu_v_Part_of_10 (va_Decl.abs (X.k.2.1 _ (List.mem_of_getElem? (i := 102) rfl))) hq rfl (ble_of (by omega)) rfl hst hroom dec))
  · exact (x_wk (n2 := false) (n3 := false) rfl (x_rU (As := [va_rf a0]) X h hM (rec_c X ht rfl rfl) cpu_v_Part_of_11 (va_Decl.abs (X.k.2.1 _ (List.mem_of_getElem? (i := 102) rfl))) hq rfl (ble_of (by omega)) rfl hst hroom dec))
  · exact (x_wk (n2 := false) (n3 := false) rfl (x_rU (As := [va_rf a0]) X h hM (rec_c X ht rfl rfl) cpu_v_Part_of_12 (va_Decl.abs (X.k.2.1 _ (List.mem_of_getElem? (i := 102) rfl))) hq rfl (ble_of (by omega)) rfl hst hroom dec))


theorem cpx_X1_odds : cpV yX1_odds cX1_odds 4 (some .int) 3 := ⟨q1100, q1101, q146, q1102, by decide +kernel⟩
set_option maxHeartbeats 4000000 in
set_option maxRecDepth 100000 in
theorem w_X1_odds {l : Launch} {D : va_G} {cx ro : Nat → Nat} {A : Nat → Prop} {TL SL : Nat}  (σ0 : XS) (th : Nat) (a0 : Option Nat) (a1 : Option Nat) (a2 : Int32) (r : (Int32 × XS)) (hF : X_X1_odds σ0 th a0 a1 a2 = some r) : xMet l D cx ro A TL SL yX1_odds cX1_odds 4 (some .int) 193 false wx_X1_odds [.ref th, va_rf a0, va_rf a1, .int a2] σ0 (some (.int r.1)) r.2 := by
  refine x_of (l9 := [(0, some (.ref th)), (1, some (va_rf a0)), (2, some (va_rf a1)), (3, some (.int a2))]) (by decide) (by cases a0 <;> cases a1 <;> exact Nat.le_of_ble_eq_true rfl) (by cases a0 <;> cases a1 <;> rfl) ?_
  intro p e s m args below meth c ls X K hnm hl hlm
  have ha : agW false wx_X1_odds σ0 σ0 := agW.rf
  unfold X_X1_odds at hF
  refine g_aload_n (i := 0) K hl dX1_odds_0 rfl rfl ?_
  refine g_aloadR_n (i := 1) K hl dX1_odds_1 rfl rfl ?_
  refine g_aloadR_n (i := 2) K hl dX1_odds_2 rfl rfl ?_
  have hlZ := hl
  obtain ⟨q1, hq9, ht_q1, hZ⟩ := nnX_i hF
  cases hq9
  have hF := hZ
  clear hZ
  have hl := hlZ
  clear hlZ
  refine x_callV hF ha rfl (fun t h => x_rV X hl (w_X1_tell _ _ _ _ t h) ht_q1 rfl rfl cpx_X1_tell q1103 rfl rfl rfl rfl (cat_room rfl) dX1_odds_3) (fun σ2 hF ha => ?_)
  refine g_aload_n (i := 0) K hl dX1_odds_6 rfl rfl ?_
  refine xg_X1_17 X hF dX1_odds_7 (fun t3 hF => ?_)
  refine g_iload_n (i := 3) K hl dX1_odds_10 rfl rfl ?_
  refine x_aald X hF dX1_odds_11 (fun t4 hF => ?_)
  refine g_ifnonnull (tgt := 20) K hF dX1_odds_12 (by decide) (fun hF => ?_) (fun hF => ?_)
  · refine g_iconst K dX1_odds_20 lc_0 ?_
    refine g_bipush K dX1_odds_21 lb_100 ?_
    refine g_aload_n (i := 0) K hl dX1_odds_23 rfl rfl ?_
    refine xg_X1_17 X hF dX1_odds_24 (fun t5 hF => ?_)
    refine g_iload_n (i := 3) K hl dX1_odds_27 rfl rfl ?_
    refine x_aald X hF dX1_odds_28 (fun t6 hF => ?_)
    refine g_aload_n (i := 0) K hl dX1_odds_29 rfl rfl ?_
    refine xg_X1_37 X hF dX1_odds_30 (fun t7 hF => ?_)
    refine x_callP (V := Value.int) hF (fun t h => xr_v_Part_of X hl (w_v_Part_of 64 _ _ _ t h) q1108 rfl rfl (cat_room rfl) dX1_odds_33) (fun t8 hF => ?_)
    refine x_mmin X hl q1128 rfl rfl dX1_odds_36 ?_
    refine x_mmax X hl q1129 rfl rfl dX1_odds_39 ?_
    exact x_iretW X hF ha dX1_odds_42
  · refine g_bipush K dX1_odds_15 lb_50 ?_
    refine g_goto (tgt := 42) K dX1_odds_17 (by decide) ?_
    exact x_iretW X hF ha dX1_odds_42

theorem cpx_X0_odds : cpV yX0_odds cX0_odds 4 (some .int) 3 := ⟨q1022, q1023, q145, q1024, by decide +kernel⟩
set_option maxHeartbeats 4000000 in
set_option maxRecDepth 100000 in
theorem w_X0_odds {l : Launch} {D : va_G} {cx ro : Nat → Nat} {A : Nat → Prop} {TL SL : Nat} (G : Nat) (σ0 : XS) (th : Nat) (a0 : Int32) (a1 : Int32) (a2 : Int32) (r : (Int32 × XS)) (hF : X_X0_odds ro G σ0 th a0 a1 a2 = some r) : xMet l D cx ro A TL SL yX0_odds cX0_odds 4 (some .int) 194 false wx_X0_odds [.ref th, .int a0, .int a1, .int a2] σ0 (some (.int r.1)) r.2 := by
  refine x_of (l9 := [(0, some (.ref th)), (1, some (.int a0)), (2, some (.int a1)), (3, some (.int a2))]) (by decide) (by exact Nat.le_of_ble_eq_true rfl) (by rfl) ?_
  intro p e s m args below meth c ls X K hnm hl hlm
  have ha : agW false wx_X0_odds σ0 σ0 := agW.rf
  unfold X_X0_odds at hF
  refine g_aload_n (i := 0) K hl dX0_odds_0 rfl rfl ?_
  refine g_iload_n (i := 1) K hl dX0_odds_1 rfl rfl ?_
  refine g_iload_n (i := 2) K hl dX0_odds_2 rfl rfl ?_
  refine g_iload_n (i := 3) K hl dX0_odds_3 rfl rfl ?_
  have hlZ := hl
  obtain ⟨q1, hq9, ht_q1, hZ⟩ := nnX_i hF
  cases hq9
  have hF := hZ
  clear hZ
  have hl := hlZ
  clear hlZ
  refine x_callP (V := Value.int) hF (fun t h => x_rV X hl (w_X0_isTry G _ _ _ _ _ t h) ht_q1 rfl rfl cpx_X0_isTry q1025 rfl rfl rfl rfl (cat_room rfl) dX0_odds_4) (fun t2 hF => ?_)
  refine g_if_eq (tgt := 49) K hF dX0_odds_7 (by decide) (fun hF => ?_) (fun hF => ?_)
  · refine g_iconst K dX0_odds_49 lc_m1 ?_
    exact x_iretW X hF ha dX0_odds_50
  · refine g_aload_n (i := 0) K hl dX0_odds_10 rfl rfl ?_
    refine xg_X0_12 X hF dX0_odds_11 (fun t3 hF => ?_)
    refine g_aload_n (i := 0) K hl dX0_odds_14 rfl rfl ?_
    refine xg_X0_12 X hF dX0_odds_15 (fun t4 hF => ?_)
    refine xg_X0_94 X hF dX0_odds_18 (fun t5 hF => ?_)
    refine g_iload_n (i := 1) K hl dX0_odds_21 rfl rfl ?_
    have hlZ := hl
    obtain ⟨q6, hq9, ht_q6, hZ⟩ := nnX_i hF
    cases hq9
    have hF := hZ
    clear hZ
    have hl := hlZ
    clear hlZ
    refine x_callP (V := va_rf) hF (fun t h => x_rV X hl (w_J2_get _ _ _ t h) ht_q6 rfl rfl cpx_J2_get q1010 rfl rfl rfl rfl (cat_room rfl) dX0_odds_22) (fun t7 hF => ?_)
    refine x_cast X hF rfl q1020 dX0_odds_25 (fun hF => ?_)
    refine g_aload_n (i := 0) K hl dX0_odds_28 rfl rfl ?_
    refine xg_X0_12 X hF dX0_odds_29 (fun t8 hF => ?_)
    refine xg_X0_87 X hF dX0_odds_32 (fun t9 hF => ?_)
    refine g_iload_n (i := 2) K hl dX0_odds_35 rfl rfl ?_
    have hlZ := hl
    obtain ⟨q10, hq9, ht_q10, hZ⟩ := nnX_i hF
    cases hq9
    have hF := hZ
    clear hZ
    have hl := hlZ
    clear hlZ
    refine x_callP (V := va_rf) hF (fun t h => x_rV X hl (w_J2_get _ _ _ t h) ht_q10 rfl rfl cpx_J2_get q1010 rfl rfl rfl rfl (cat_room rfl) dX0_odds_36) (fun t11 hF => ?_)
    refine x_cast X hF rfl q1011 dX0_odds_39 (fun hF => ?_)
    refine g_iload_n (i := 3) K hl dX0_odds_42 rfl rfl ?_
    have hlZ := hl
    obtain ⟨q12, hq9, ht_q12, hZ⟩ := nnX_i hF
    cases hq9
    have hF := hZ
    clear hZ
    have hl := hlZ
    clear hlZ
    refine x_callW (V := Value.int) hF ha rfl (fun t h => x_rV X hl (w_X1_odds _ _ _ _ _ t h) ht_q12 rfl rfl cpx_X1_odds q1099 rfl rfl rfl rfl (cat_room rfl) dX0_odds_43) (fun t13 σ14 hF ha => ?_)
    refine g_goto (tgt := 50) K dX0_odds_46 (by decide) ?_
    exact x_iretW X hF ha dX0_odds_50

theorem cpx_X1_value : cpV yX1_value cX1_value 6 (some .int) 4 := ⟨q1149, q1150, q146, q1151, by decide +kernel⟩
set_option maxHeartbeats 4000000 in
set_option maxRecDepth 100000 in
theorem w_X1_value {l : Launch} {D : va_G} {cx ro : Nat → Nat} {A : Nat → Prop} {TL SL : Nat}  (σ0 : XS) (th : Nat) (a0 : Option Nat) (a1 : Option Nat) (a2 : Option Nat) (a3 : Int32) (r : (Int32 × XS)) (hF : X_X1_value σ0 th a0 a1 a2 a3 = some r) : xMet l D cx ro A TL SL yX1_value cX1_value 6 (some .int) 194 false wx_X1_value [.ref th, va_rf a0, va_rf a1, va_rf a2, .int a3] σ0 (some (.int r.1)) r.2 := by
  refine x_of (l9 := [(0, some (.ref th)), (1, some (va_rf a0)), (2, some (va_rf a1)), (3, some (va_rf a2)), (4, some (.int a3))]) (by decide) (by cases a0 <;> cases a1 <;> cases a2 <;> exact Nat.le_of_ble_eq_true rfl) (by cases a0 <;> cases a1 <;> cases a2 <;> rfl) ?_
  intro p e s m args below meth c ls X K hnm hl hlm
  have ha : agW false wx_X1_value σ0 σ0 := agW.rf
  unfold X_X1_value at hF
  refine g_aload_n (i := 0) K hl dX1_value_0 rfl rfl ?_
  refine g_aloadR_n (i := 2) K hl dX1_value_1 rfl rfl ?_
  refine g_aloadR_n (i := 3) K hl dX1_value_2 rfl rfl ?_
  refine g_iload (i := 4) K hl dX1_value_3 rfl ?_
  have hlZ := hl
  obtain ⟨q1, hq9, ht_q1, hZ⟩ := nnX_i hF
  cases hq9
  have hF := hZ
  clear hZ
  have hl := hlZ
  clear hlZ
  refine x_callW (V := Value.int) hF ha rfl (fun t h => x_rV X hl (w_X1_odds _ _ _ _ _ t h) ht_q1 rfl rfl cpx_X1_odds q1152 rfl rfl rfl rfl (cat_room rfl) dX1_value_5) (fun t2 σ3 hF ha => ?_)
  refine g_istore (i := 5) K hl dX1_value_8 rfl rfl (fun ls hl => ?_)
  refine g_aload_n (i := 0) K hl dX1_value_10 rfl rfl ?_
  refine xg_X1_37 X hF dX1_value_11 (fun t4 hF => ?_)
  refine xg_X1_118 X hF dX1_value_14 (fun t5 hF => ?_)
  refine g_bipush K dX1_value_17 lb_8 ?_
  refine g_iload (i := 4) K hl dX1_value_19 rfl ?_
  refine x_iast X hF ha rfl dX1_value_21 (fun σ6 hF ha => ?_)
  refine g_aload_n (i := 0) K hl dX1_value_22 rfl rfl ?_
  refine xg_X1_37 X hF dX1_value_23 (fun t7 hF => ?_)
  refine xg_X1_118 X hF dX1_value_26 (fun t8 hF => ?_)
  refine g_bipush K dX1_value_29 lb_9 ?_
  refine g_iload (i := 5) K hl dX1_value_31 rfl ?_
  refine x_iast X hF ha rfl dX1_value_33 (fun σ9 hF ha => ?_)
  refine g_aloadR_n (i := 1) K hl dX1_value_34 rfl rfl ?_
  refine xg_X1_180 X hF dX1_value_35 (fun t10 hF => ?_)
  refine g_aload_n (i := 0) K hl dX1_value_38 rfl rfl ?_
  refine xg_X1_37 X hF dX1_value_39 (fun t11 hF => ?_)
  refine x_callP (V := Value.int) hF (fun t h => xr_v_Part_of X hl (w_v_Part_of 64 _ _ _ t h) q1108 rfl rfl (cat_room rfl) dX1_value_42) (fun t12 hF => ?_)
  exact x_iretW X hF ha dX1_value_45

theorem cpx_X1_chooses : cpV yX1_chooses cX1_chooses 8 (some .int) 2 := ⟨q1144, q1145, q146, q1146, by decide +kernel⟩
set_option maxHeartbeats 4000000 in
set_option maxRecDepth 100000 in
theorem w_X1_chooses {l : Launch} {D : va_G} {cx ro : Nat → Nat} {A : Nat → Prop} {TL SL : Nat} (G : Nat) (σ0 : XS) (th : Nat) (a0 : Option Nat) (a1 : Option Nat) (r : (Int32 × XS)) (hF : X_X1_chooses ro G σ0 th a0 a1 = some r) : xMet l D cx ro A TL SL yX1_chooses cX1_chooses 8 (some .int) 195 false wx_X1_chooses [.ref th, va_rf a0, va_rf a1] σ0 (some (.int r.1)) r.2 := by
  refine x_of (l9 := [(0, some (.ref th)), (1, some (va_rf a0)), (2, some (va_rf a1))]) (by decide) (by cases a0 <;> cases a1 <;> exact Nat.le_of_ble_eq_true rfl) (by cases a0 <;> cases a1 <;> rfl) ?_
  intro p e s m args below meth c ls X K hnm hl hlm
  have L98 : ∀ (k8 : XS → Option Nat → Option Nat → Int32 → Int32 → Int32 → Option (Int32 × XS)) (hk8 : (∀ (σ : XS) (x1 : Option Nat) (x2 : Option Nat) (x3 : Int32) (x4 : Int32) (x5 : Int32) (ls : Array Slot), k8 σ x1 x2 x3 x4 x5 = some r → agW false wx_X1_chooses σ0 σ → lq ls 8 [(0, some (.ref th)), (1, some (va_rf x1)), (2, some (va_rf x2)), (3, some (.int x3)), (4, some (.int x4)), (5, some (.int x5))] → ZX p l e 195 TL SL s m args below meth c D cx ro A false wx_X1_chooses σ0 (some (.int r.1)) r.2 σ (F0 m 8 ls []))) (k23 : XS → Option Nat → Option Nat → Int32 → Int32 → Int32 → Int32 → Option (Int32 × XS)) (hk23 : (∀ (σ : XS) (x1 : Option Nat) (x2 : Option Nat) (x3 : Int32) (x4 : Int32) (x5 : Int32) (x6 : Int32) (ls : Array Slot), k23 σ x1 x2 x3 x4 x5 x6 = some r → agW false wx_X1_chooses σ0 σ → lq ls 8 [(0, some (.ref th)), (1, some (va_rf x1)), (2, some (va_rf x2)), (3, some (.int x3)), (4, some (.int x4)), (5, some (.int x5)), (6, some (.int x6))] → ZX p l e 195 TL SL s m args below meth c D cx ro A false wx_X1_chooses σ0 (some (.int r.1)) r.2 σ (F0 m 23 ls []))) (σ : XS) (x1 : Option Nat) (x2 : Option Nat) (x5 : Int32) (x6 : Int32) (x7 : Int32) (ls : Array Slot), X_X1_chooses_L98 ro G th k8 k23 σ x1 x2 x5 x6 x7 = some r → agW false wx_X1_chooses σ0 σ → lq ls 8 [(0, some (.ref th)), (1, some (va_rf x1)), (2, some (va_rf x2)), (5, some (.int x5)), (6, some (.int x6)), (7, some (.int x7))] → ZX p l e 195 TL SL s m args below meth c D cx ro A false wx_X1_chooses σ0 (some (.int r.1)) r.2 σ (F0 m 98 ls []) := by
    intro k8 hk8 k23 hk23 σ x1 x2 x5 x6 x7 ls hF ha hl
    unfold X_X1_chooses_L98 at hF
    refine g_bipush K dX1_chooses_98 lb_10 ?_
    refine g_iload (i := 5) K hl dX1_chooses_100 rfl ?_
    refine g_imul K dX1_chooses_102 ?_
    refine g_iload (i := 6) K hl dX1_chooses_103 rfl ?_
    refine g_iadd K dX1_chooses_105 ?_
    refine g_istore_n (i := 3) K hl dX1_chooses_106 rfl rfl (lkn_rf rfl) (fun ls hl => ?_)
    refine g_iload (i := 7) K hl dX1_chooses_107 rfl ?_
    refine g_istore (i := 4) K hl dX1_chooses_109 rfl rfl (fun ls hl => ?_)
    refine g_iinc (i := 6) K hl dX1_chooses_111 rfl lc_1 rfl rfl (fun ls hl => ?_)
    refine g_goto (tgt := 23) K dX1_chooses_114 (by decide) ?_
    exact hk23 _ _ _ _ _ _ _ ls hF ha (lq_sub hl rfl)
  have L82 : ∀ (k8 : XS → Option Nat → Option Nat → Int32 → Int32 → Int32 → Option (Int32 × XS)) (hk8 : (∀ (σ : XS) (x1 : Option Nat) (x2 : Option Nat) (x3 : Int32) (x4 : Int32) (x5 : Int32) (ls : Array Slot), k8 σ x1 x2 x3 x4 x5 = some r → agW false wx_X1_chooses σ0 σ → lq ls 8 [(0, some (.ref th)), (1, some (va_rf x1)), (2, some (va_rf x2)), (3, some (.int x3)), (4, some (.int x4)), (5, some (.int x5))] → ZX p l e 195 TL SL s m args below meth c D cx ro A false wx_X1_chooses σ0 (some (.int r.1)) r.2 σ (F0 m 8 ls []))) (k23 : XS → Option Nat → Option Nat → Int32 → Int32 → Int32 → Int32 → Option (Int32 × XS)) (hk23 : (∀ (σ : XS) (x1 : Option Nat) (x2 : Option Nat) (x3 : Int32) (x4 : Int32) (x5 : Int32) (x6 : Int32) (ls : Array Slot), k23 σ x1 x2 x3 x4 x5 x6 = some r → agW false wx_X1_chooses σ0 σ → lq ls 8 [(0, some (.ref th)), (1, some (va_rf x1)), (2, some (va_rf x2)), (3, some (.int x3)), (4, some (.int x4)), (5, some (.int x5)), (6, some (.int x6))] → ZX p l e 195 TL SL s m args below meth c D cx ro A false wx_X1_chooses σ0 (some (.int r.1)) r.2 σ (F0 m 23 ls []))) (σ : XS) (x1 : Option Nat) (x2 : Option Nat) (x3 : Int32) (x4 : Int32) (x5 : Int32) (x6 : Int32) (s0 : Int32) (ls : Array Slot), X_X1_chooses_L82 ro G th k8 k23 σ x1 x2 x3 x4 x5 x6 s0 = some r → agW false wx_X1_chooses σ0 σ → lq ls 8 [(0, some (.ref th)), (1, some (va_rf x1)), (2, some (va_rf x2)), (3, some (.int x3)), (4, some (.int x4)), (5, some (.int x5)), (6, some (.int x6))] → ZX p l e 195 TL SL s m args below meth c D cx ro A false wx_X1_chooses σ0 (some (.int r.1)) r.2 σ (F0 m 82 ls [.int s0]) := by
    intro k8 hk8 k23 hk23 σ x1 x2 x3 x4 x5 x6 s0 ls hF ha hl
    unfold X_X1_chooses_L82 at hF
    refine g_istore (i := 7) K hl dX1_chooses_82 rfl rfl (fun ls hl => ?_)
    refine g_iload_n (i := 3) K hl dX1_chooses_84 rfl rfl ?_
    refine g_if_lt (tgt := 98) K hF dX1_chooses_85 (by decide) (fun hF => ?_) (fun hF => ?_)
    · exact L98 k8 hk8 k23 hk23 _ _ _ _ _ _ ls hF ha (lq_sub hl rfl)
    · refine g_iload (i := 7) K hl dX1_chooses_88 rfl ?_
      refine g_iload (i := 4) K hl dX1_chooses_90 rfl ?_
      refine g_icmp_gt (tgt := 98) K hF dX1_chooses_92 (by decide) (fun hF => ?_) (fun hF => ?_)
      · exact L98 k8 hk8 k23 hk23 _ _ _ _ _ _ ls hF ha (lq_sub hl rfl)
      · refine g_goto (tgt := 111) K dX1_chooses_95 (by decide) ?_
        refine g_iinc (i := 6) K hl dX1_chooses_111 rfl lc_1 rfl rfl (fun ls hl => ?_)
        refine g_goto (tgt := 23) K dX1_chooses_114 (by decide) ?_
        exact hk23 _ _ _ _ _ _ _ ls hF ha (lq_sub hl rfl)
  have B23 : ∀ (k8 : XS → Option Nat → Option Nat → Int32 → Int32 → Int32 → Option (Int32 × XS)) (hk8 : (∀ (σ : XS) (x1 : Option Nat) (x2 : Option Nat) (x3 : Int32) (x4 : Int32) (x5 : Int32) (ls : Array Slot), k8 σ x1 x2 x3 x4 x5 = some r → agW false wx_X1_chooses σ0 σ → lq ls 8 [(0, some (.ref th)), (1, some (va_rf x1)), (2, some (va_rf x2)), (3, some (.int x3)), (4, some (.int x4)), (5, some (.int x5))] → ZX p l e 195 TL SL s m args below meth c D cx ro A false wx_X1_chooses σ0 (some (.int r.1)) r.2 σ (F0 m 8 ls []))) (k23 : XS → Option Nat → Option Nat → Int32 → Int32 → Int32 → Int32 → Option (Int32 × XS)) (hk23 : (∀ (σ : XS) (x1 : Option Nat) (x2 : Option Nat) (x3 : Int32) (x4 : Int32) (x5 : Int32) (x6 : Int32) (ls : Array Slot), k23 σ x1 x2 x3 x4 x5 x6 = some r → agW false wx_X1_chooses σ0 σ → lq ls 8 [(0, some (.ref th)), (1, some (va_rf x1)), (2, some (va_rf x2)), (3, some (.int x3)), (4, some (.int x4)), (5, some (.int x5)), (6, some (.int x6))] → ZX p l e 195 TL SL s m args below meth c D cx ro A false wx_X1_chooses σ0 (some (.int r.1)) r.2 σ (F0 m 23 ls []))) (σ : XS) (x1 : Option Nat) (x2 : Option Nat) (x3 : Int32) (x4 : Int32) (x5 : Int32) (x6 : Int32) (ls : Array Slot), X_X1_chooses_B23 ro G th k8 k23 σ x1 x2 x3 x4 x5 x6 = some r → agW false wx_X1_chooses σ0 σ → lq ls 8 [(0, some (.ref th)), (1, some (va_rf x1)), (2, some (va_rf x2)), (3, some (.int x3)), (4, some (.int x4)), (5, some (.int x5)), (6, some (.int x6))] → ZX p l e 195 TL SL s m args below meth c D cx ro A false wx_X1_chooses σ0 (some (.int r.1)) r.2 σ (F0 m 23 ls []) := by
    intro k8 hk8 k23 hk23 σ x1 x2 x3 x4 x5 x6 ls hF ha hl
    unfold X_X1_chooses_B23 at hF
    refine g_iload (i := 6) K hl dX1_chooses_23 rfl ?_
    refine g_iconst K dX1_chooses_25 lc_5 ?_
    refine g_icmp_ge (tgt := 117) K hF dX1_chooses_26 (by decide) (fun hF => ?_) (fun hF => ?_)
    · refine g_iinc (i := 5) K hl dX1_chooses_117 rfl lc_1 rfl rfl (fun ls hl => ?_)
      refine g_goto (tgt := 8) K dX1_chooses_120 (by decide) ?_
      exact hk8 _ _ _ _ _ _ ls hF ha (lq_sub hl rfl)
    · refine g_aload_n (i := 0) K hl dX1_chooses_29 rfl rfl ?_
      refine g_aloadR_n (i := 2) K hl dX1_chooses_30 rfl rfl ?_
      refine g_aload_n (i := 0) K hl dX1_chooses_31 rfl rfl ?_
      refine xg_X1_28 X hF dX1_chooses_32 (fun t1 hF => ?_)
      refine g_iload (i := 5) K hl dX1_chooses_35 rfl ?_
      have hlZ := hl
      obtain ⟨q2, hq9, ht_q2, hZ⟩ := nnX_i hF
      cases hq9
      have hF := hZ
      clear hZ
      have hl := hlZ
      clear hlZ
      refine x_callP (V := va_rf) hF (fun t h => x_rV X hl (w_J2_get _ _ _ t h) ht_q2 rfl rfl cpx_J2_get q983 rfl rfl rfl rfl (cat_room rfl) dX1_chooses_37) (fun t3 hF => ?_)
      refine x_cast X hF rfl q984 dX1_chooses_40 (fun hF => ?_)
      refine g_iload (i := 6) K hl dX1_chooses_43 rfl ?_
      have hlZ := hl
      obtain ⟨q4, hq9, ht_q4, hZ⟩ := nnX_i hF
      cases hq9
      have hF := hZ
      clear hZ
      have hl := hlZ
      clear hlZ
      refine x_callP (V := Value.int) hF (fun t h => x_rV X hl (w_X1_can G _ _ _ _ _ t h) ht_q4 rfl rfl cpx_X1_can q1147 rfl rfl rfl rfl (cat_room rfl) dX1_chooses_45) (fun t5 hF => ?_)
      refine g_if_ne (tgt := 54) K hF dX1_chooses_48 (by decide) (fun hF => ?_) (fun hF => ?_)
      · refine g_aloadR_n (i := 1) K hl dX1_chooses_54 rfl rfl ?_
        refine g_ifnonnull (tgt := 62) K hF dX1_chooses_55 (by decide) (fun hF => ?_) (fun hF => ?_)
        · refine g_aload_n (i := 0) K hl dX1_chooses_62 rfl rfl ?_
          refine g_aloadR_n (i := 1) K hl dX1_chooses_63 rfl rfl ?_
          refine g_aloadR_n (i := 2) K hl dX1_chooses_64 rfl rfl ?_
          refine g_aload_n (i := 0) K hl dX1_chooses_65 rfl rfl ?_
          refine xg_X1_28 X hF dX1_chooses_66 (fun t6 hF => ?_)
          refine g_iload (i := 5) K hl dX1_chooses_69 rfl ?_
          have hlZ := hl
          obtain ⟨q7, hq9, ht_q7, hZ⟩ := nnX_i hF
          cases hq9
          have hF := hZ
          clear hZ
          have hl := hlZ
          clear hlZ
          refine x_callP (V := va_rf) hF (fun t h => x_rV X hl (w_J2_get _ _ _ t h) ht_q7 rfl rfl cpx_J2_get q983 rfl rfl rfl rfl (cat_room rfl) dX1_chooses_71) (fun t8 hF => ?_)
          refine x_cast X hF rfl q984 dX1_chooses_74 (fun hF => ?_)
          refine g_iload (i := 6) K hl dX1_chooses_77 rfl ?_
          have hlZ := hl
          obtain ⟨q9, hq9, ht_q9, hZ⟩ := nnX_i hF
          cases hq9
          have hF := hZ
          clear hZ
          have hl := hlZ
          clear hlZ
          refine x_callW (V := Value.int) hF ha rfl (fun t h => x_rV X hl (w_X1_value _ _ _ _ _ _ t h) ht_q9 rfl rfl cpx_X1_value q1148 rfl rfl rfl rfl (cat_room rfl) dX1_chooses_79) (fun t10 σ11 hF ha => ?_)
          exact L82 k8 hk8 k23 hk23 _ _ _ _ _ _ _ _ ls hF ha (lq_sub hl rfl)
        · refine g_iconst K dX1_chooses_58 lc_0 ?_
          refine g_goto (tgt := 82) K dX1_chooses_59 (by decide) ?_
          exact L82 k8 hk8 k23 hk23 _ _ _ _ _ _ _ _ ls hF ha (lq_sub hl rfl)
      · refine g_goto (tgt := 111) K dX1_chooses_51 (by decide) ?_
        refine g_iinc (i := 6) K hl dX1_chooses_111 rfl lc_1 rfl rfl (fun ls hl => ?_)
        refine g_goto (tgt := 23) K dX1_chooses_114 (by decide) ?_
        exact hk23 _ _ _ _ _ _ _ ls hF ha (lq_sub hl rfl)
  have L23 : ∀ (k8 : XS → Option Nat → Option Nat → Int32 → Int32 → Int32 → Option (Int32 × XS)) (hk8 : (∀ (σ : XS) (x1 : Option Nat) (x2 : Option Nat) (x3 : Int32) (x4 : Int32) (x5 : Int32) (ls : Array Slot), k8 σ x1 x2 x3 x4 x5 = some r → agW false wx_X1_chooses σ0 σ → lq ls 8 [(0, some (.ref th)), (1, some (va_rf x1)), (2, some (va_rf x2)), (3, some (.int x3)), (4, some (.int x4)), (5, some (.int x5))] → ZX p l e 195 TL SL s m args below meth c D cx ro A false wx_X1_chooses σ0 (some (.int r.1)) r.2 σ (F0 m 8 ls []))) (n : Nat) (σ : XS) (x1 : Option Nat) (x2 : Option Nat) (x3 : Int32) (x4 : Int32) (x5 : Int32) (x6 : Int32) (ls : Array Slot), X_X1_chooses_L23 ro G th k8 n σ x1 x2 x3 x4 x5 x6 = some r → agW false wx_X1_chooses σ0 σ → lq ls 8 [(0, some (.ref th)), (1, some (va_rf x1)), (2, some (va_rf x2)), (3, some (.int x3)), (4, some (.int x4)), (5, some (.int x5)), (6, some (.int x6))] → ZX p l e 195 TL SL s m args below meth c D cx ro A false wx_X1_chooses σ0 (some (.int r.1)) r.2 σ (F0 m 23 ls []) := by
    intro k8 hk8 n
    induction n with
    | zero => intro σ x1 x2 x3 x4 x5 x6 ls hF; exact absurd hF (fun h => by cases h)
    | succ n ih => intro σ x1 x2 x3 x4 x5 x6 ls hF ha hl; exact B23 k8 hk8 _ ih _ _ _ _ _ _ _ ls hF ha hl
  have B8 : ∀ (k8 : XS → Option Nat → Option Nat → Int32 → Int32 → Int32 → Option (Int32 × XS)) (hk8 : (∀ (σ : XS) (x1 : Option Nat) (x2 : Option Nat) (x3 : Int32) (x4 : Int32) (x5 : Int32) (ls : Array Slot), k8 σ x1 x2 x3 x4 x5 = some r → agW false wx_X1_chooses σ0 σ → lq ls 8 [(0, some (.ref th)), (1, some (va_rf x1)), (2, some (va_rf x2)), (3, some (.int x3)), (4, some (.int x4)), (5, some (.int x5))] → ZX p l e 195 TL SL s m args below meth c D cx ro A false wx_X1_chooses σ0 (some (.int r.1)) r.2 σ (F0 m 8 ls []))) (σ : XS) (x1 : Option Nat) (x2 : Option Nat) (x3 : Int32) (x4 : Int32) (x5 : Int32) (ls : Array Slot), X_X1_chooses_B8 ro G th k8 σ x1 x2 x3 x4 x5 = some r → agW false wx_X1_chooses σ0 σ → lq ls 8 [(0, some (.ref th)), (1, some (va_rf x1)), (2, some (va_rf x2)), (3, some (.int x3)), (4, some (.int x4)), (5, some (.int x5))] → ZX p l e 195 TL SL s m args below meth c D cx ro A false wx_X1_chooses σ0 (some (.int r.1)) r.2 σ (F0 m 8 ls []) := by
    intro k8 hk8 σ x1 x2 x3 x4 x5 ls hF ha hl
    unfold X_X1_chooses_B8 at hF
    refine g_iload (i := 5) K hl dX1_chooses_8 rfl ?_
    refine g_aload_n (i := 0) K hl dX1_chooses_10 rfl rfl ?_
    refine xg_X1_28 X hF dX1_chooses_11 (fun t1 hF => ?_)
    have hlZ := hl
    obtain ⟨q2, hq9, ht_q2, hZ⟩ := nnX_i hF
    cases hq9
    have hF := hZ
    clear hZ
    have hl := hlZ
    clear hlZ
    refine x_callP (V := Value.int) hF (fun t h => x_rV X hl (w_J2_size _ _  t h) ht_q2 rfl rfl cpx_J2_size q982 rfl rfl rfl rfl (cat_room rfl) dX1_chooses_14) (fun t3 hF => ?_)
    refine g_icmp_ge (tgt := 123) K hF dX1_chooses_17 (by decide) (fun hF => ?_) (fun hF => ?_)
    · refine g_iload_n (i := 3) K hl dX1_chooses_123 rfl rfl ?_
      exact x_iretW X hF ha dX1_chooses_124
    · refine g_iconst K dX1_chooses_20 lc_0 ?_
      refine g_istore (i := 6) K hl dX1_chooses_21 rfl rfl (fun ls hl => ?_)
      exact L23 k8 hk8 G _ _ _ _ _ _ _ ls hF ha (lq_sub hl rfl)
  have L8 : ∀ (n : Nat) (σ : XS) (x1 : Option Nat) (x2 : Option Nat) (x3 : Int32) (x4 : Int32) (x5 : Int32) (ls : Array Slot), X_X1_chooses_L8 ro G th  n σ x1 x2 x3 x4 x5 = some r → agW false wx_X1_chooses σ0 σ → lq ls 8 [(0, some (.ref th)), (1, some (va_rf x1)), (2, some (va_rf x2)), (3, some (.int x3)), (4, some (.int x4)), (5, some (.int x5))] → ZX p l e 195 TL SL s m args below meth c D cx ro A false wx_X1_chooses σ0 (some (.int r.1)) r.2 σ (F0 m 8 ls []) := by
    intro  n
    induction n with
    | zero => intro σ x1 x2 x3 x4 x5 ls hF; exact absurd hF (fun h => by cases h)
    | succ n ih => intro σ x1 x2 x3 x4 x5 ls hF ha hl; exact B8  _ ih _ _ _ _ _ _ ls hF ha hl
  have ha : agW false wx_X1_chooses σ0 σ0 := agW.rf
  unfold X_X1_chooses at hF
  refine g_iconst K dX1_chooses_0 lc_m1 ?_
  refine g_istore_n (i := 3) K hl dX1_chooses_1 rfl rfl (lkn_rf rfl) (fun ls hl => ?_)
  refine g_iconst K dX1_chooses_2 lc_0 ?_
  refine g_istore (i := 4) K hl dX1_chooses_3 rfl rfl (fun ls hl => ?_)
  refine g_iconst K dX1_chooses_5 lc_0 ?_
  refine g_istore (i := 5) K hl dX1_chooses_6 rfl rfl (fun ls hl => ?_)
  exact L8  G _ _ _ _ _ _ ls hF ha (lq_sub hl rfl)

theorem cpx_X0_chooses : cpV yX0_chooses cX0_chooses 2 (some .int) 1 := ⟨q1131, q1132, q145, q1133, by decide +kernel⟩
set_option maxHeartbeats 4000000 in
set_option maxRecDepth 100000 in
theorem w_X0_chooses {l : Launch} {D : va_G} {cx ro : Nat → Nat} {A : Nat → Prop} {TL SL : Nat} (G : Nat) (σ0 : XS) (th : Nat) (a0 : Int32) (r : (Int32 × XS)) (hF : X_X0_chooses ro G σ0 th a0 = some r) : xMet l D cx ro A TL SL yX0_chooses cX0_chooses 2 (some .int) 196 false wx_X0_chooses [.ref th, .int a0] σ0 (some (.int r.1)) r.2 := by
  refine x_of (l9 := [(0, some (.ref th)), (1, some (.int a0))]) (by decide) (by exact Nat.le_of_ble_eq_true rfl) (by rfl) ?_
  intro p e s m args below meth c ls X K hnm hl hlm
  have ha : agW false wx_X0_chooses σ0 σ0 := agW.rf
  unfold X_X0_chooses at hF
  refine g_aload_n (i := 0) K hl dX0_chooses_0 rfl rfl ?_
  refine g_iload_n (i := 1) K hl dX0_chooses_1 rfl rfl ?_
  have hlZ := hl
  obtain ⟨q1, hq9, ht_q1, hZ⟩ := nnX_i hF
  cases hq9
  have hF := hZ
  clear hZ
  have hl := hlZ
  clear hlZ
  refine x_callP (V := Value.int) hF (fun t h => x_rV X hl (w_X0_isBobber _ _ _ t h) ht_q1 rfl rfl cpx_X0_isBobber q1016 rfl rfl rfl rfl (cat_room rfl) dX0_chooses_2) (fun t2 hF => ?_)
  refine g_if_eq (tgt := 37) K hF dX0_chooses_5 (by decide) (fun hF => ?_) (fun hF => ?_)
  · refine g_bipush K dX0_chooses_37 lb_m2 ?_
    exact x_iretW X hF ha dX0_chooses_39
  · refine g_aload_n (i := 0) K hl dX0_chooses_8 rfl rfl ?_
    refine xg_X0_12 X hF dX0_chooses_9 (fun t3 hF => ?_)
    refine g_aload_n (i := 0) K hl dX0_chooses_12 rfl rfl ?_
    refine g_iload_n (i := 1) K hl dX0_chooses_13 rfl rfl ?_
    have hlZ := hl
    obtain ⟨q4, hq9, ht_q4, hZ⟩ := nnX_i hF
    cases hq9
    have hF := hZ
    clear hZ
    have hl := hlZ
    clear hlZ
    refine x_callP (V := va_rf) hF (fun t h => x_rV X hl (w_X0_ruleOf _ _ _ t h) ht_q4 rfl rfl cpx_X0_ruleOf q1134 rfl rfl rfl rfl (cat_room rfl) dX0_chooses_14) (fun t5 hF => ?_)
    refine g_aload_n (i := 0) K hl dX0_chooses_17 rfl rfl ?_
    refine xg_X0_12 X hF dX0_chooses_18 (fun t6 hF => ?_)
    refine xg_X0_94 X hF dX0_chooses_21 (fun t7 hF => ?_)
    refine g_iload_n (i := 1) K hl dX0_chooses_24 rfl rfl ?_
    have hlZ := hl
    obtain ⟨q8, hq9, ht_q8, hZ⟩ := nnX_i hF
    cases hq9
    have hF := hZ
    clear hZ
    have hl := hlZ
    clear hlZ
    refine x_callP (V := va_rf) hF (fun t h => x_rV X hl (w_J2_get _ _ _ t h) ht_q8 rfl rfl cpx_J2_get q1010 rfl rfl rfl rfl (cat_room rfl) dX0_chooses_25) (fun t9 hF => ?_)
    refine x_cast X hF rfl q1020 dX0_chooses_28 (fun hF => ?_)
    have hlZ := hl
    obtain ⟨q10, hq9, ht_q10, hZ⟩ := nnX_i hF
    cases hq9
    have hF := hZ
    clear hZ
    have hl := hlZ
    clear hlZ
    refine x_callW (V := Value.int) hF ha rfl (fun t h => x_rV X hl (w_X1_chooses G _ _ _ _ t h) ht_q10 rfl rfl cpx_X1_chooses q1143 rfl rfl rfl rfl (cat_room rfl) dX0_chooses_31) (fun t11 σ12 hF ha => ?_)
    refine g_goto (tgt := 39) K dX0_chooses_34 (by decide) ?_
    exact x_iretW X hF ha dX0_chooses_39


set_option maxHeartbeats 4000000 in
set_option maxRecDepth 100000 in
theorem w_X16_seconds {l : Launch} {D : va_G} {cx ro : Nat → Nat} {A : Nat → Prop} {TL SL : Nat}  (σ0 : XS) (th : Nat)  (r : Int32) (hF : X_X16_seconds σ0 th = some r) : xMet l D cx ro A TL SL yX16_seconds cX16_seconds 1 (some .int) 0 false wx_X16_seconds [.ref th] σ0 (some (.int r)) σ0 := by
  refine x_of (l9 := [(0, some (.ref th))]) (by decide) (by exact Nat.le_of_ble_eq_true rfl) (by rfl) ?_
  intro p e s m args below meth c ls X K hnm hl hlm
  unfold X_X16_seconds at hF
  refine g_iconst K dX16_seconds_0 lc_1 ?_
  exact x_iretP X hF agW.rf dX16_seconds_1

theorem cpsu_X20_seconds : cpSU yX20_seconds cX20_seconds 1 (some .int) 0 := ⟨by decide +kernel, q2355, q1199, q2360, q1200, by decide +kernel⟩
set_option maxHeartbeats 4000000 in
set_option maxRecDepth 100000 in
theorem w_X20_seconds {l : Launch} {D : va_G} {cx ro : Nat → Nat} {A : Nat → Prop} {TL SL : Nat}  (σ0 : XS) (th : Nat)  (r : Int32) (hF : X_X20_seconds σ0 th = some r) : xMet l D cx ro A TL SL yX20_seconds cX20_seconds 1 (some .int) 0 false wx_X20_seconds [.ref th] σ0 (some (.int r)) σ0 := by
  refine x_of (l9 := [(0, some (.ref th))]) (by decide) (by exact Nat.le_of_ble_eq_true rfl) (by rfl) ?_
  intro p e s m args below meth c ls X K hnm hl hlm
  unfold X_X20_seconds at hF
  refine g_iconst K dX20_seconds_0 lc_2 ?_
  exact x_iretP X hF agW.rf dX20_seconds_1


set_option maxHeartbeats 4000000 in
set_option maxRecDepth 100000 in
theorem w_X17_seconds {l : Launch} {D : va_G} {cx ro : Nat → Nat} {A : Nat → Prop} {TL SL : Nat}  (σ0 : XS) (th : Nat)  (r : Int32) (hF : X_X17_seconds σ0 th = some r) : xMet l D cx ro A TL SL yX17_seconds cX17_seconds 1 (some .int) 1 false wx_X17_seconds [.ref th] σ0 (some (.int r)) σ0 := by
  refine x_of (l9 := [(0, some (.ref th))]) (by decide) (by exact Nat.le_of_ble_eq_true rfl) (by rfl) ?_
  intro p e s m args below meth c ls X K hnm hl hlm
  unfold X_X17_seconds at hF
  refine g_aload_n (i := 0) K hl dX17_seconds_0 rfl rfl ?_
  have hlZ := hl
  obtain ⟨q1, hq9, k9, hk9, ht9, hZ⟩ := nnS_i hF
  cases hq9
  have hF := hZ
  clear hZ
  have hl := hlZ
  clear hlZ
  refine x_callP (V := Value.int) hF (fun t h => x_rSU X hl (w_X20_seconds _ _  t h) (rec_t ht9 hk9 rfl) cpsu_X20_seconds q1198 q1197 rfl rfl rfl rfl (cat_room rfl) dX17_seconds_1) (fun t2 hF => ?_)
  refine g_iconst K dX17_seconds_4 lc_1 ?_
  refine g_iadd K dX17_seconds_5 ?_
  exact x_iretP X hF agW.rf dX17_seconds_6


set_option maxHeartbeats 4000000 in
set_option maxRecDepth 100000 in
theorem w_X18_seconds {l : Launch} {D : va_G} {cx ro : Nat → Nat} {A : Nat → Prop} {TL SL : Nat}  (σ0 : XS) (th : Nat)  (r : Int32) (hF : X_X18_seconds σ0 th = some r) : xMet l D cx ro A TL SL yX18_seconds cX18_seconds 1 (some .int) 0 false wx_X18_seconds [.ref th] σ0 (some (.int r)) σ0 := by
  refine x_of (l9 := [(0, some (.ref th))]) (by decide) (by exact Nat.le_of_ble_eq_true rfl) (by rfl) ?_
  intro p e s m args below meth c ls X K hnm hl hlm
  unfold X_X18_seconds at hF
  refine g_iconst K dX18_seconds_0 lc_1 ?_
  exact x_iretP X hF agW.rf dX18_seconds_1

def vm_v_Try_seconds (l : Launch) (D : va_G) (cx ro : Nat → Nat) (A : Nat → Prop) (TL SL : Nat) (σ : XS) (r : Option Nat)  (z : Int32) : Prop := ∃ q, r = some q ∧ ((tg σ q = 50 ∧ xMet l D cx ro A TL SL yX16_seconds cX16_seconds 1 (some .int) 0 false wx_X16_seconds [.ref q] σ (some (.int z)) σ) ∨ (tg σ q = 51 ∧ xMet l D cx ro A TL SL yX16_seconds cX16_seconds 1 (some .int) 0 false wx_X16_seconds [.ref q] σ (some (.int z)) σ) ∨ (tg σ q = 52 ∧ xMet l D cx ro A TL SL yX20_seconds cX20_seconds 1 (some .int) 0 false wx_X20_seconds [.ref q] σ (some (.int z)) σ) ∨ (tg σ q = 53 ∧ xMet l D cx ro A TL SL yX17_seconds cX17_seconds 1 (some .int) 1 false wx_X17_seconds [.ref q] σ (some (.int z)) σ) ∨ (tg σ q = 54 ∧ xMet l D cx ro A TL SL yX18_seconds cX18_seconds 1 (some .int) 0 false wx_X18_seconds [.ref q] σ (some (.int z)) σ))
set_option maxHeartbeats 4000000 in
theorem w_v_Try_seconds {l : Launch} {D : va_G} {cx ro : Nat → Nat} {A : Nat → Prop} {TL SL : Nat} (σ : XS) (r : Option Nat)  (z : Int32) (hF : X_v_Try_seconds  σ r  = some z) : vm_v_Try_seconds l D cx ro A TL SL σ r  z := by
  unfold X_v_Try_seconds at hF
  cases r with
  | none => exact absurd hF (fun h => by cases h)
  | some q =>
    refine ⟨q, rfl, ?_⟩
    dsimp only at hF
    by_cases ht : tg σ q = 50
    · rw [if_pos ht] at hF
      exact Or.inl ⟨ht, w_X16_seconds _ _  _ hF⟩
    rw [if_neg ht] at hF
    by_cases ht : tg σ q = 51
    · rw [if_pos ht] at hF
      exact Or.inr (Or.inl ⟨ht, w_X16_seconds _ _  _ hF⟩)
    rw [if_neg ht] at hF
    by_cases ht : tg σ q = 52
    · rw [if_pos ht] at hF
      exact Or.inr (Or.inr (Or.inl ⟨ht, w_X20_seconds _ _  _ hF⟩))
    rw [if_neg ht] at hF
    by_cases ht : tg σ q = 53
    · rw [if_pos ht] at hF
      exact Or.inr (Or.inr (Or.inr (Or.inl ⟨ht, w_X17_seconds _ _  _ hF⟩)))
    rw [if_neg ht] at hF
    by_cases ht : tg σ q = 54
    · rw [if_pos ht] at hF
      exact Or.inr (Or.inr (Or.inr (Or.inr (⟨ht, w_X18_seconds _ _  _ hF⟩))))
    rw [if_neg ht] at hF
    exact absurd hF (fun h => by cases h)

theorem cpu_v_Try_seconds_50 : cpU "TubBites$Free" ({ cls := "TubBites$Try", name := "seconds", desc := "()I" } : MethodName) yX16_seconds cX16_seconds 1 (some .int) 0 := ⟨q1190, q1191, q1192, q2357, q1193, by decide +kernel⟩
theorem cpu_v_Try_seconds_51 : cpU "TubBites$Stalked" ({ cls := "TubBites$Try", name := "seconds", desc := "()I" } : MethodName) yX16_seconds cX16_seconds 1 (some .int) 0 := ⟨q1190, q1204, q1192, q2357, q1193, by decide +kernel⟩
theorem cpu_v_Try_seconds_52 : cpU "TubBites$Walled" ({ cls := "TubBites$Try", name := "seconds", desc := "()I" } : MethodName) yX20_seconds cX20_seconds 1 (some .int) 0 := ⟨q1190, q1205, q1199, q2360, q1200, by decide +kernel⟩
theorem cpu_v_Try_seconds_53 : cpU "TubBites$Grounded" ({ cls := "TubBites$Try", name := "seconds", desc := "()I" } : MethodName) yX17_seconds cX17_seconds 1 (some .int) 0 := ⟨q1190, q1194, q1195, q2358, q1196, by decide +kernel⟩
theorem cpu_v_Try_seconds_54 : cpU "TubBites$Leaned" ({ cls := "TubBites$Try", name := "seconds", desc := "()I" } : MethodName) yX18_seconds cX18_seconds 1 (some .int) 0 := ⟨q1190, q1201, q1202, q2359, q1203, by decide +kernel⟩
set_option maxHeartbeats 4000000 in
theorem xr_v_Try_seconds {p : Program} {l : Launch} {e : Env} {s : State} {m : MethodId} {args : Array Value} {below : List Frame} {meth : Method} {c : Code} {cc : ByteArray} {nL : Nat} {own : String} {D : va_G} {cx ro : Nat → Nat} {A : Nat → Prop} {ret : Option FieldType} {ls : Array Slot} {lq0 : List (Nat × Option Value)} {pc : Nat} {rest st : List Value} {TL SL t0 s0 : Nat} {d index : Nat} {σ : XS} {r : Option Nat}  {z : Int32} (X : XX p m c cc nL s args meth D cx ro A ret own) (h : lq ls nL lq0) (hM : vm_v_Try_seconds l D cx ro A TL SL σ r  z) (hq : Cond.methodLink own index ({ cls := "TubBites$Try", name := "seconds", desc := "()I" } : MethodName) ∈ lw_all) (hd1 : Nat.ble (1 + 1) d = true) (hst : st = [].reverse ++ va_rf r :: rest) (hroom : (rest.map fun v => v.category).sum ≤ 8) (dec : decode cc pc = .ok (.invokevirtual index, 3)) :
    RunX p l e (xRoom d (TL - t0) (SL - s0)) s m args below meth c D cx ro A TL SL t0 s0 (F0 m pc ls st) rest false wx_v_Try_seconds σ (some (.int z)) σ ((va_rf r) :: []).toArray := by
  obtain ⟨q, rfl, hM⟩ := hM
  have hd1 := Nat.le_of_ble_eq_true hd1
  rcases hM with ⟨ht, hM⟩ | ⟨ht, hM⟩ | ⟨ht, hM⟩ | ⟨ht, hM⟩ | ⟨ht, hM⟩
  · exact (x_wk (n2 := false) (n3 := false) rfl (x_rU (As := []) X h hM (rec_t (k := 0) ht (by decide) rfl) cpu_v_Try_seconds_50 (va_Decl.abs (X.k.2.1 _ (List.mem_of_getElem? (i := 73) rfl))) hq rfl (ble_of (by omega)) rfl hst hroom dec))
  · exact (x_wk (n2 := false) (n3 := false) rfl (x_rU (As := []) X h hM (rec_t (k := 1) ht (by decide) rfl) cpu_v_Try_seconds_51 (va_Decl.abs (X.k.2.1 _ (List.mem_of_getElem? (i := 73) rfl))) hq rfl (ble_of (by omega)) rfl hst hroom dec))
  · exact (x_wk (n2 := false) (n3 := false) rfl (x_rU (As := []) X h hM (rec_t (k := 2) ht (by decide) rfl) cpu_v_Try_seconds_52 (va_Decl.abs (X.k.2.1 _ (List.mem_of_getElem? (i := 73) rfl))) hq rfl (ble_of (by omega)) rfl hst hroom dec))
  · exact (x_wk (n2 := false) (n3 := false) rfl (x_rU (As := []) X h hM (rec_t (k := 3) ht (by decide) rfl) cpu_v_Try_seconds_53 (va_Decl.abs (X.k.2.1 _ (List.mem_of_getElem? (i := 73) rfl))) hq rfl (ble_of (by omega)) rfl hst hroom dec))
  · exact (x_wk (n2 := false) (n3 := false) rfl (x_rU (As := []) X h hM (rec_t (k := 4) ht (by decide) rfl) cpu_v_Try_seconds_54 (va_Decl.abs (X.k.2.1 _ (List.mem_of_getElem? (i := 73) rfl))) hq rfl (ble_of (by omega)) rfl hst hroom dec))


theorem cpx_X1_takes : cpV yX1_takes cX1_takes 3 none 2 := ⟨q1185, q1186, q146, q1187, by decide +kernel⟩
set_option maxHeartbeats 4000000 in
set_option maxRecDepth 100000 in
theorem w_X1_takes {l : Launch} {D : va_G} {cx ro : Nat → Nat} {A : Nat → Prop} {TL SL : Nat}  (σ0 : XS) (th : Nat) (a0 : Option Nat) (a1 : Int32) (r : XS) (hF : X_X1_takes ro σ0 th a0 a1 = some r) : xMet l D cx ro A TL SL yX1_takes cX1_takes 3 none 2 false wx_X1_takes [.ref th, va_rf a0, .int a1] σ0 none r := by
  refine x_of (l9 := [(0, some (.ref th)), (1, some (va_rf a0)), (2, some (.int a1))]) (by decide) (by cases a0 <;> exact Nat.le_of_ble_eq_true rfl) (by cases a0 <;> rfl) ?_
  intro p e s m args below meth c ls X K hnm hl hlm
  have ha : agW false wx_X1_takes σ0 σ0 := agW.rf
  unfold X_X1_takes at hF
  refine g_aloadR_n (i := 1) K hl dX1_takes_0 rfl rfl ?_
  refine g_dup K dX1_takes_1 (rf_cat _) ?_
  refine xg_X1_194 X hF dX1_takes_2 (fun t1 hF => ?_)
  refine x_getsN (j := 0) X rfl (List.mem_of_getElem? (i := 53) rfl) dX1_takes_5 ?_
  refine g_iload_n (i := 2) K hl dX1_takes_8 rfl rfl ?_
  refine x_aald X hF dX1_takes_9 (fun t2 hF => ?_)
  refine x_callP (V := Value.int) hF (fun t h => xr_v_Try_seconds X hl (w_v_Try_seconds _ _  t h) q1188 rfl rfl (cat_room rfl) dX1_takes_10) (fun t3 hF => ?_)
  refine g_iadd K dX1_takes_13 ?_
  refine xp_X1_194 X hF ha rfl dX1_takes_14 (fun σ4 hF ha => ?_)
  refine g_aloadR_n (i := 1) K hl dX1_takes_17 rfl rfl ?_
  refine g_dup K dX1_takes_18 (rf_cat _) ?_
  refine xg_X1_144 X hF dX1_takes_19 (fun t5 hF => ?_)
  refine x_getsN (j := 0) X rfl (List.mem_of_getElem? (i := 53) rfl) dX1_takes_22 ?_
  refine g_iload_n (i := 2) K hl dX1_takes_25 rfl rfl ?_
  refine x_aald X hF dX1_takes_26 (fun t6 hF => ?_)
  refine x_callP (V := Value.int) hF (fun t h => xr_v_Try_breath X hl (w_v_Try_breath _ _  t h) q1043 rfl rfl (cat_room rfl) dX1_takes_27) (fun t7 hF => ?_)
  refine g_isub K dX1_takes_30 ?_
  refine xp_X1_144 X hF ha rfl dX1_takes_31 (fun σ8 hF ha => ?_)
  exact x_vretV X hF ha dX1_takes_34

theorem cpx_X1_isCell : cpV yX1_isCell cX1_isCell 3 (some .boolean) 2 := ⟨q1235, q1236, q146, q1237, by decide +kernel⟩
set_option maxHeartbeats 4000000 in
set_option maxRecDepth 100000 in
theorem w_X1_isCell {l : Launch} {D : va_G} {cx ro : Nat → Nat} {A : Nat → Prop} {TL SL : Nat}  (σ0 : XS) (th : Nat) (a0 : Int32) (a1 : Int32) (r : Int32) (hF : X_X1_isCell σ0 th a0 a1 = some r) : xMet l D cx ro A TL SL yX1_isCell cX1_isCell 3 (some .boolean) 1 false wx_X1_isCell [.ref th, .int a0, .int a1] σ0 (some (.int r)) σ0 := by
  refine x_of (l9 := [(0, some (.ref th)), (1, some (.int a0)), (2, some (.int a1))]) (by decide) (by exact Nat.le_of_ble_eq_true rfl) (by rfl) ?_
  intro p e s m args below meth c ls X K hnm hl hlm
  unfold X_X1_isCell at hF
  refine g_iload_n (i := 1) K hl dX1_isCell_0 rfl rfl ?_
  refine g_iconst K dX1_isCell_1 lc_0 ?_
  refine g_aload_n (i := 0) K hl dX1_isCell_2 rfl rfl ?_
  refine xg_X1_41 X hF dX1_isCell_3 (fun t1 hF => ?_)
  refine g_iconst K dX1_isCell_6 lc_1 ?_
  refine g_isub K dX1_isCell_7 ?_
  refine x_callP (V := Value.int) hF (fun t h => x_rSN X hl (w_X0_isIn _ _ _ _ t h) cpx_X0_isIn (List.mem_of_getElem? (i := 54) rfl) rfl rfl rfl rfl (cat_room rfl) dX1_isCell_8) (fun t2 hF => ?_)
  refine g_if_eq (tgt := 32) K hF dX1_isCell_11 (by decide) (fun hF => ?_) (fun hF => ?_)
  · refine g_iconst K dX1_isCell_32 lc_0 ?_
    exact x_zretP X hF (Or.inl rfl) agW.rf dX1_isCell_33
  · refine g_iload_n (i := 2) K hl dX1_isCell_14 rfl rfl ?_
    refine g_iconst K dX1_isCell_15 lc_0 ?_
    refine g_aload_n (i := 0) K hl dX1_isCell_16 rfl rfl ?_
    refine xg_X1_48 X hF dX1_isCell_17 (fun t3 hF => ?_)
    refine g_iconst K dX1_isCell_20 lc_1 ?_
    refine g_isub K dX1_isCell_21 ?_
    refine x_callP (V := Value.int) hF (fun t h => x_rSN X hl (w_X0_isIn _ _ _ _ t h) cpx_X0_isIn (List.mem_of_getElem? (i := 54) rfl) rfl rfl rfl rfl (cat_room rfl) dX1_isCell_22) (fun t4 hF => ?_)
    refine g_if_eq (tgt := 32) K hF dX1_isCell_25 (by decide) (fun hF => ?_) (fun hF => ?_)
    · refine g_iconst K dX1_isCell_32 lc_0 ?_
      exact x_zretP X hF (Or.inl rfl) agW.rf dX1_isCell_33
    · refine g_iconst K dX1_isCell_28 lc_1 ?_
      refine g_goto (tgt := 33) K dX1_isCell_29 (by decide) ?_
      exact x_zretP X hF (Or.inr rfl) agW.rf dX1_isCell_33

theorem cpx_X1_push : cpV yX1_push cX1_push 5 (some .boolean) 3 := ⟨q1232, qs45, q146, q1233, by decide +kernel⟩
set_option maxHeartbeats 4000000 in
set_option maxRecDepth 100000 in
theorem w_X1_push_F {l : Launch} {D : va_G} {cx ro : Nat → Nat} {A : Nat → Prop} {TL SL : Nat} (G : Nat) (R_X1_push : XS → Nat → Option Nat → Int32 → Int32 → Option (Int32 × XS)) (dR : Nat) (hR_X1_push : ∀ (σ : XS) (th : Nat) (a0 : Option Nat) (a1 : Int32) (a2 : Int32) (r : (Int32 × XS)), R_X1_push σ th a0 a1 a2 = some r → xMet l D cx ro A TL SL yX1_push cX1_push 5 (some .boolean) (4 + dR - 1) false wx_X1_push [.ref th, va_rf a0, .int a1, .int a2] σ (some (.int r.1)) r.2) (σ0 : XS) (th : Nat) (a0 : Option Nat) (a1 : Int32) (a2 : Int32) (r : (Int32 × XS)) (hF : X_X1_push_F G R_X1_push σ0 th a0 a1 a2 = some r) : xMet l D cx ro A TL SL yX1_push cX1_push 5 (some .boolean) (4 + dR) false wx_X1_push [.ref th, va_rf a0, .int a1, .int a2] σ0 (some (.int r.1)) r.2 := by
  refine x_of (l9 := [(0, some (.ref th)), (1, some (va_rf a0)), (2, some (.int a1)), (3, some (.int a2))]) (by decide) (by cases a0 <;> exact Nat.le_of_ble_eq_true rfl) (by cases a0 <;> rfl) ?_
  intro p e s m args below meth c ls X K hnm hl hlm
  have L57 : ∀ (σ : XS) (x1 : Option Nat) (x2 : Int32) (x3 : Int32) (ls : Array Slot), X_X1_push_L57 G R_X1_push th  σ x1 x2 x3 = some r → agW false wx_X1_push σ0 σ → lq ls 5 [(0, some (.ref th)), (1, some (va_rf x1)), (2, some (.int x2)), (3, some (.int x3))] → ZX p l e (4 + dR) TL SL s m args below meth c D cx ro A false wx_X1_push σ0 (some (.int r.1)) r.2 σ (F0 m 57 ls []) := by
    intro  σ x1 x2 x3 ls hF ha hl
    unfold X_X1_push_L57 at hF
    refine g_aloadR_n (i := 1) K hl dX1_push_57 rfl rfl ?_
    refine g_dup K dX1_push_58 (rf_cat _) ?_
    refine xg_X1_76 X hF dX1_push_59 (fun t1 hF => ?_)
    refine g_iload_n (i := 2) K hl dX1_push_62 rfl rfl ?_
    refine g_iadd K dX1_push_63 ?_
    refine xp_X1_76 X hF ha rfl dX1_push_64 (fun σ2 hF ha => ?_)
    refine g_aloadR_n (i := 1) K hl dX1_push_67 rfl rfl ?_
    refine g_dup K dX1_push_68 (rf_cat _) ?_
    refine xg_X1_79 X hF dX1_push_69 (fun t3 hF => ?_)
    refine g_iload_n (i := 3) K hl dX1_push_72 rfl rfl ?_
    refine g_iadd K dX1_push_73 ?_
    refine xp_X1_79 X hF ha rfl dX1_push_74 (fun σ4 hF ha => ?_)
    refine g_iconst K dX1_push_77 lc_1 ?_
    exact x_zretW X hF (Or.inr rfl) ha dX1_push_78
  have ha : agW false wx_X1_push σ0 σ0 := agW.rf
  unfold X_X1_push_F at hF
  refine g_aload_n (i := 0) K hl dX1_push_0 rfl rfl ?_
  refine g_aloadR_n (i := 1) K hl dX1_push_1 rfl rfl ?_
  refine xg_X1_76 X hF dX1_push_2 (fun t1 hF => ?_)
  refine g_iload_n (i := 2) K hl dX1_push_5 rfl rfl ?_
  refine g_iadd K dX1_push_6 ?_
  refine g_aloadR_n (i := 1) K hl dX1_push_7 rfl rfl ?_
  refine xg_X1_79 X hF dX1_push_8 (fun t2 hF => ?_)
  refine g_iload_n (i := 3) K hl dX1_push_11 rfl rfl ?_
  refine g_iadd K dX1_push_12 ?_
  have hlZ := hl
  obtain ⟨q3, hq9, ht_q3, hZ⟩ := nnX_i hF
  cases hq9
  have hF := hZ
  clear hZ
  have hl := hlZ
  clear hlZ
  refine x_callP (V := Value.int) hF (fun t h => x_rV X hl (w_X1_isCell _ _ _ _ t h) ht_q3 rfl rfl cpx_X1_isCell q1234 rfl (ble_of (by omega)) rfl rfl (cat_room rfl) dX1_push_13) (fun t4 hF => ?_)
  refine g_if_ne (tgt := 21) K hF dX1_push_16 (by decide) (fun hF => ?_) (fun hF => ?_)
  · refine g_aload_n (i := 0) K hl dX1_push_21 rfl rfl ?_
    refine g_aloadR_n (i := 1) K hl dX1_push_22 rfl rfl ?_
    refine xg_X1_76 X hF dX1_push_23 (fun t5 hF => ?_)
    refine g_iload_n (i := 2) K hl dX1_push_26 rfl rfl ?_
    refine g_iadd K dX1_push_27 ?_
    refine g_aloadR_n (i := 1) K hl dX1_push_28 rfl rfl ?_
    refine xg_X1_79 X hF dX1_push_29 (fun t6 hF => ?_)
    refine g_iload_n (i := 3) K hl dX1_push_32 rfl rfl ?_
    refine g_iadd K dX1_push_33 ?_
    have hlZ := hl
    obtain ⟨q7, hq9, ht_q7, hZ⟩ := nnX_i hF
    cases hq9
    have hF := hZ
    clear hZ
    have hl := hlZ
    clear hlZ
    refine x_callP (V := va_rf) hF (fun t h => x_rV X hl (w_X1_at G _ _ _ _ t h) ht_q7 rfl rfl cpx_X1_at q1239 rfl (ble_of (by omega)) rfl rfl (cat_room rfl) dX1_push_34) (fun t8 hF => ?_)
    refine g_astoreR (i := 4) K hl dX1_push_37 rfl rfl (fun ls hl => ?_)
    refine g_aloadR (i := 4) K hl dX1_push_39 rfl ?_
    refine g_ifnull (tgt := 57) K hF dX1_push_41 (by decide) (fun hF => ?_) (fun hF => ?_)
    · exact L57  _ _ _ _ ls hF ha (lq_sub hl rfl)
    · refine g_aload_n (i := 0) K hl dX1_push_44 rfl rfl ?_
      refine g_aloadR (i := 4) K hl dX1_push_45 rfl ?_
      refine g_iload_n (i := 2) K hl dX1_push_47 rfl rfl ?_
      refine g_iload_n (i := 3) K hl dX1_push_48 rfl rfl ?_
      have hlZ := hl
      obtain ⟨q9, hq9, ht_q9, hZ⟩ := nnX_i hF
      cases hq9
      have hF := hZ
      clear hZ
      have hl := hlZ
      clear hlZ
      refine x_callW (V := Value.int) hF ha rfl (fun t h => x_rV X hl (hR_X1_push _ _ _ _ _ t h) ht_q9 rfl rfl cpx_X1_push q1230 rfl (ble_of (by omega)) rfl rfl (cat_room rfl) dX1_push_49) (fun t10 σ11 hF ha => ?_)
      refine g_if_ne (tgt := 57) K hF dX1_push_52 (by decide) (fun hF => ?_) (fun hF => ?_)
      · exact L57  _ _ _ _ ls hF ha (lq_sub hl rfl)
      · refine g_iconst K dX1_push_55 lc_0 ?_
        exact x_zretW X hF (Or.inl rfl) ha dX1_push_56
  · refine g_iconst K dX1_push_19 lc_0 ?_
    exact x_zretW X hF (Or.inl rfl) ha dX1_push_20
theorem w_X1_push {l : Launch} {D : va_G} {cx ro : Nat → Nat} {A : Nat → Prop} {TL SL : Nat} (G : Nat) (D9 : Nat) : ∀ (σ : XS) (th : Nat) (a0 : Option Nat) (a1 : Int32) (a2 : Int32) (r : (Int32 × XS)), X_X1_push G D9 σ th a0 a1 a2 = some r → xMet l D cx ro A TL SL yX1_push cX1_push 5 (some .boolean) (4 + D9 - 1) false wx_X1_push [.ref th, va_rf a0, .int a1, .int a2] σ (some (.int r.1)) r.2 := by
  induction D9 with
  | zero => intro σ th a0 a1 a2 r hF; exact absurd hF (fun h => by cases h)
  | succ D9 ih =>
    intro σ th a0 a1 a2 r hF
    exact w_X1_push_F G (X_X1_push G D9) D9 ih σ th a0 a1 a2 r hF

theorem cpx_X1_pushFrom : cpV yX1_pushFrom cX1_pushFrom 5 none 2 := ⟨q1225, q1226, q146, q1227, by decide +kernel⟩
set_option maxHeartbeats 4000000 in
set_option maxRecDepth 100000 in
theorem w_X1_pushFrom {l : Launch} {D : va_G} {cx ro : Nat → Nat} {A : Nat → Prop} {TL SL : Nat} (G : Nat) (σ0 : XS) (th : Nat) (a0 : Option Nat) (a1 : Option Nat) (r : XS) (hF : X_X1_pushFrom G σ0 th a0 a1 = some r) : xMet l D cx ro A TL SL yX1_pushFrom cX1_pushFrom 5 none 17 false wx_X1_pushFrom [.ref th, va_rf a0, va_rf a1] σ0 none r := by
  refine x_of (l9 := [(0, some (.ref th)), (1, some (va_rf a0)), (2, some (va_rf a1))]) (by decide) (by cases a0 <;> cases a1 <;> exact Nat.le_of_ble_eq_true rfl) (by cases a0 <;> cases a1 <;> rfl) ?_
  intro p e s m args below meth c ls X K hnm hl hlm
  have L24 : ∀ (σ : XS) (x2 : Option Nat) (x3 : Int32) (x4 : Int32) (ls : Array Slot), X_X1_pushFrom_L24 G th  σ x2 x3 x4 = some r → agW false wx_X1_pushFrom σ0 σ → lq ls 5 [(0, some (.ref th)), (2, some (va_rf x2)), (3, some (.int x3)), (4, some (.int x4))] → ZX p l e 17 TL SL s m args below meth c D cx ro A false wx_X1_pushFrom σ0 none r σ (F0 m 24 ls []) := by
    intro  σ x2 x3 x4 ls hF ha hl
    unfold X_X1_pushFrom_L24 at hF
    refine g_aload_n (i := 0) K hl dX1_pushFrom_24 rfl rfl ?_
    refine g_aloadR_n (i := 2) K hl dX1_pushFrom_25 rfl rfl ?_
    refine g_iload_n (i := 3) K hl dX1_pushFrom_26 rfl rfl ?_
    refine g_iload (i := 4) K hl dX1_pushFrom_27 rfl ?_
    have hlZ := hl
    obtain ⟨q1, hq9, ht_q1, hZ⟩ := nnX_i hF
    cases hq9
    have hF := hZ
    clear hZ
    have hl := hlZ
    clear hlZ
    refine x_callW (V := Value.int) hF ha rfl (fun t h => x_rV X hl (w_X1_push G 12 _ _ _ _ _ t h) ht_q1 rfl rfl cpx_X1_push q1230 rfl rfl rfl rfl (cat_room rfl) dX1_pushFrom_29) (fun t2 σ3 hF ha => ?_)
    refine g_pop K dX1_pushFrom_32 rfl ?_
    exact x_vretV X hF ha dX1_pushFrom_33
  have ha : agW false wx_X1_pushFrom σ0 σ0 := agW.rf
  unfold X_X1_pushFrom at hF
  refine g_aload_n (i := 0) K hl dX1_pushFrom_0 rfl rfl ?_
  refine g_aloadR_n (i := 1) K hl dX1_pushFrom_1 rfl rfl ?_
  refine g_aloadR_n (i := 2) K hl dX1_pushFrom_2 rfl rfl ?_
  have hlZ := hl
  obtain ⟨q1, hq9, ht_q1, hZ⟩ := nnX_i hF
  cases hq9
  have hF := hZ
  clear hZ
  have hl := hlZ
  clear hlZ
  refine x_callP (V := Value.int) hF (fun t h => x_rV X hl (w_X1_pushX _ _ _ _ t h) ht_q1 rfl rfl cpx_X1_pushX q1228 rfl rfl rfl rfl (cat_room rfl) dX1_pushFrom_3) (fun t2 hF => ?_)
  refine g_istore_n (i := 3) K hl dX1_pushFrom_6 rfl rfl (lkn_rf rfl) (fun ls hl => ?_)
  refine g_aload_n (i := 0) K hl dX1_pushFrom_7 rfl rfl ?_
  refine g_aloadR_n (i := 1) K hl dX1_pushFrom_8 rfl rfl ?_
  refine g_aloadR_n (i := 2) K hl dX1_pushFrom_9 rfl rfl ?_
  have hlZ := hl
  obtain ⟨q3, hq9, ht_q3, hZ⟩ := nnX_i hF
  cases hq9
  have hF := hZ
  clear hZ
  have hl := hlZ
  clear hlZ
  refine x_callP (V := Value.int) hF (fun t h => x_rV X hl (w_X1_pushY _ _ _ _ t h) ht_q3 rfl rfl cpx_X1_pushY q1229 rfl rfl rfl rfl (cat_room rfl) dX1_pushFrom_10) (fun t4 hF => ?_)
  refine g_istore (i := 4) K hl dX1_pushFrom_13 rfl rfl (fun ls hl => ?_)
  refine g_iload_n (i := 3) K hl dX1_pushFrom_15 rfl rfl ?_
  refine g_if_ne (tgt := 24) K hF dX1_pushFrom_16 (by decide) (fun hF => ?_) (fun hF => ?_)
  · exact L24  _ _ _ _ ls hF ha (lq_sub hl rfl)
  · refine g_iload (i := 4) K hl dX1_pushFrom_19 rfl ?_
    refine g_if_eq (tgt := 33) K hF dX1_pushFrom_21 (by decide) (fun hF => ?_) (fun hF => ?_)
    · exact x_vretV X hF ha dX1_pushFrom_33
    · exact L24  _ _ _ _ ls hF ha (lq_sub hl rfl)

theorem cpsu_X21_missed : cpSU yX21_missed cX21_missed 4 none 3 := ⟨by decide +kernel, q1208, q1207, q2362, q1214, by decide +kernel⟩
set_option maxHeartbeats 4000000 in
set_option maxRecDepth 100000 in
theorem w_X21_missed {l : Launch} {D : va_G} {cx ro : Nat → Nat} {A : Nat → Prop} {TL SL : Nat}  (σ0 : XS) (th : Nat) (a0 : Option Nat) (a1 : Option Nat) (a2 : Option Nat) (r : XS) (hF : X_X21_missed σ0 th a0 a1 a2 = some r) : xMet l D cx ro A TL SL yX21_missed cX21_missed 4 none 0 false wx_X21_missed [.ref th, va_rf a0, va_rf a1, va_rf a2] σ0 none r := by
  refine x_of (l9 := [(0, some (.ref th)), (1, some (va_rf a0)), (2, some (va_rf a1)), (3, some (va_rf a2))]) (by decide) (by cases a0 <;> cases a1 <;> cases a2 <;> exact Nat.le_of_ble_eq_true rfl) (by cases a0 <;> cases a1 <;> cases a2 <;> rfl) ?_
  intro p e s m args below meth c ls X K hnm hl hlm
  have ha : agW false wx_X21_missed σ0 σ0 := agW.rf
  unfold X_X21_missed at hF
  refine g_aloadR_n (i := 3) K hl dX21_missed_0 rfl rfl ?_
  refine g_dup K dX21_missed_1 (rf_cat _) ?_
  refine xg_X21_7 X hF dX21_missed_2 (fun t1 hF => ?_)
  refine g_iconst K dX21_missed_5 lc_1 ?_
  refine g_iadd K dX21_missed_6 ?_
  refine xp_X21_7 X hF ha rfl dX21_missed_7 (fun σ2 hF ha => ?_)
  exact x_vretV X hF ha dX21_missed_10

theorem cpx_X16_piece : cpV yX16_piece cX16_piece 4 none 3 := ⟨q1216, q1217, q2357, q1222, by decide +kernel⟩
set_option maxHeartbeats 4000000 in
set_option maxRecDepth 100000 in
theorem w_X16_piece {l : Launch} {D : va_G} {cx ro : Nat → Nat} {A : Nat → Prop} {TL SL : Nat}  (σ0 : XS) (th : Nat) (a0 : Option Nat) (a1 : Option Nat) (a2 : Option Nat) (r : XS) (hF : X_X16_piece σ0 th a0 a1 a2 = some r) : xMet l D cx ro A TL SL yX16_piece cX16_piece 4 none 1 false wx_X16_piece [.ref th, va_rf a0, va_rf a1, va_rf a2] σ0 none r := by
  refine x_of (l9 := [(0, some (.ref th)), (1, some (va_rf a0)), (2, some (va_rf a1)), (3, some (va_rf a2))]) (by decide) (by cases a0 <;> cases a1 <;> cases a2 <;> exact Nat.le_of_ble_eq_true rfl) (by cases a0 <;> cases a1 <;> cases a2 <;> rfl) ?_
  intro p e s m args below meth c ls X K hnm hl hlm
  have ha : agW false wx_X16_piece σ0 σ0 := agW.rf
  unfold X_X16_piece at hF
  refine g_aloadR_n (i := 3) K hl dX16_piece_0 rfl rfl ?_
  refine xg_X16_9 X hF dX16_piece_1 (fun t1 hF => ?_)
  refine g_aloadR_n (i := 1) K hl dX16_piece_4 rfl rfl ?_
  refine xg_X16_15 X hF dX16_piece_5 (fun t2 hF => ?_)
  refine g_icmp_ge (tgt := 12) K hF dX16_piece_8 (by decide) (fun hF => ?_) (fun hF => ?_)
  · refine g_aloadR_n (i := 3) K hl dX16_piece_12 rfl rfl ?_
    refine g_iconst K dX16_piece_13 lc_0 ?_
    refine g_aloadR_n (i := 3) K hl dX16_piece_14 rfl rfl ?_
    refine xg_X16_20 X hF dX16_piece_15 (fun t3 hF => ?_)
    refine g_aloadR_n (i := 2) K hl dX16_piece_18 rfl rfl ?_
    refine xg_X16_23 X hF dX16_piece_19 (fun t4 hF => ?_)
    refine g_isub K dX16_piece_22 ?_
    refine g_iconst K dX16_piece_23 lc_1 ?_
    refine g_isub K dX16_piece_24 ?_
    refine x_mmax X hl q1223 rfl rfl dX16_piece_25 ?_
    refine xp_X16_20 X hF ha rfl dX16_piece_28 (fun σ5 hF ha => ?_)
    refine g_aloadR_n (i := 3) K hl dX16_piece_31 rfl rfl ?_
    refine xg_X16_20 X hF dX16_piece_32 (fun t6 hF => ?_)
    refine g_if_ne (tgt := 44) K hF dX16_piece_35 (by decide) (fun hF => ?_) (fun hF => ?_)
    · exact x_vretV X hF ha dX16_piece_44
    · refine g_aloadR_n (i := 3) K hl dX16_piece_38 rfl rfl ?_
      refine g_bipush K dX16_piece_39 lb_9 ?_
      refine xp_X16_34 X hF ha rfl dX16_piece_41 (fun σ7 hF ha => ?_)
      exact x_vretV X hF ha dX16_piece_44
  · exact x_vretV X hF ha dX16_piece_11


set_option maxHeartbeats 4000000 in
set_option maxRecDepth 100000 in
theorem w_X19_piece {l : Launch} {D : va_G} {cx ro : Nat → Nat} {A : Nat → Prop} {TL SL : Nat}  (σ0 : XS) (th : Nat) (a0 : Option Nat) (a1 : Option Nat) (a2 : Option Nat) (r : XS) (hF : X_X19_piece σ0 th a0 a1 a2 = some r) : xMet l D cx ro A TL SL yX19_piece cX19_piece 4 none 0 false wx_X19_piece [.ref th, va_rf a0, va_rf a1, va_rf a2] σ0 none r := by
  refine x_of (l9 := [(0, some (.ref th)), (1, some (va_rf a0)), (2, some (va_rf a1)), (3, some (va_rf a2))]) (by decide) (by cases a0 <;> cases a1 <;> cases a2 <;> exact Nat.le_of_ble_eq_true rfl) (by cases a0 <;> cases a1 <;> cases a2 <;> rfl) ?_
  intro p e s m args below meth c ls X K hnm hl hlm
  have ha : agW false wx_X19_piece σ0 σ0 := agW.rf
  unfold X_X19_piece at hF
  exact x_vretV X hF ha dX19_piece_0

def vm_v_Free_piece (l : Launch) (D : va_G) (cx ro : Nat → Nat) (A : Nat → Prop) (TL SL : Nat) (σ : XS) (r : Option Nat) (a0 : Option Nat) (a1 : Option Nat) (a2 : Option Nat) (z : XS) : Prop := ∃ q, r = some q ∧ ((tg σ q = 50 ∧ xMet l D cx ro A TL SL yX16_piece cX16_piece 4 none 1 false wx_X16_piece [.ref q, va_rf a0, va_rf a1, va_rf a2] σ none z) ∨ (tg σ q = 51 ∧ xMet l D cx ro A TL SL yX19_piece cX19_piece 4 none 0 false wx_X19_piece [.ref q, va_rf a0, va_rf a1, va_rf a2] σ none z))
set_option maxHeartbeats 4000000 in
theorem w_v_Free_piece {l : Launch} {D : va_G} {cx ro : Nat → Nat} {A : Nat → Prop} {TL SL : Nat} (σ : XS) (r : Option Nat) (a0 : Option Nat) (a1 : Option Nat) (a2 : Option Nat) (z : XS) (hF : X_v_Free_piece  σ r a0 a1 a2 = some z) : vm_v_Free_piece l D cx ro A TL SL σ r a0 a1 a2 z := by
  unfold X_v_Free_piece at hF
  cases r with
  | none => exact absurd hF (fun h => by cases h)
  | some q =>
    refine ⟨q, rfl, ?_⟩
    dsimp only at hF
    by_cases ht : tg σ q = 50
    · rw [if_pos ht] at hF
      exact Or.inl ⟨ht, w_X16_piece _ _ _ _ _ _ hF⟩
    rw [if_neg ht] at hF
    by_cases ht : tg σ q = 51
    · rw [if_pos ht] at hF
      exact Or.inr (⟨ht, w_X19_piece _ _ _ _ _ _ hF⟩)
    rw [if_neg ht] at hF
    exact absurd hF (fun h => by cases h)

theorem cpu_v_Free_piece_50 : cpU "TubBites$Free" ({ cls := "TubBites$Free", name := "piece", desc := "(LTubBites$Water;LTubBites$Bobber;LTubBites$Apple;)V" } : MethodName) yX16_piece cX16_piece 4 none 3 := ⟨q1218, q1217, q1216, q2357, q1222, by decide +kernel⟩
theorem cpu_v_Free_piece_51 : cpU "TubBites$Stalked" ({ cls := "TubBites$Free", name := "piece", desc := "(LTubBites$Water;LTubBites$Bobber;LTubBites$Apple;)V" } : MethodName) yX19_piece cX19_piece 4 none 3 := ⟨q1218, q1219, q1220, q2361, q1221, by decide +kernel⟩
set_option maxHeartbeats 4000000 in
theorem xr_v_Free_piece {p : Program} {l : Launch} {e : Env} {s : State} {m : MethodId} {args : Array Value} {below : List Frame} {meth : Method} {c : Code} {cc : ByteArray} {nL : Nat} {own : String} {D : va_G} {cx ro : Nat → Nat} {A : Nat → Prop} {ret : Option FieldType} {ls : Array Slot} {lq0 : List (Nat × Option Value)} {pc : Nat} {rest st : List Value} {TL SL t0 s0 : Nat} {d index : Nat} {σ : XS} {r : Option Nat} {a0 : Option Nat} {a1 : Option Nat} {a2 : Option Nat} {z : XS} (X : XX p m c cc nL s args meth D cx ro A ret own) (h : lq ls nL lq0) (hM : vm_v_Free_piece l D cx ro A TL SL σ r a0 a1 a2 z) (hq : Cond.methodLink own index ({ cls := "TubBites$Free", name := "piece", desc := "(LTubBites$Water;LTubBites$Bobber;LTubBites$Apple;)V" } : MethodName) ∈ lw_all) (hd1 : Nat.ble (1 + 1) d = true) (hst : st = [va_rf a0, va_rf a1, va_rf a2].reverse ++ va_rf r :: rest) (hroom : (rest.map fun v => v.category).sum ≤ 8) (dec : decode cc pc = .ok (.invokevirtual index, 3)) :
    RunX p l e (xRoom d (TL - t0) (SL - s0)) s m args below meth c D cx ro A TL SL t0 s0 (F0 m pc ls st) rest false wx_v_Free_piece σ none z ((va_rf r) :: [va_rf a0, va_rf a1, va_rf a2]).toArray := by
  obtain ⟨q, rfl, hM⟩ := hM
  have hd1 := Nat.le_of_ble_eq_true hd1
  rcases hM with ⟨ht, hM⟩ | ⟨ht, hM⟩
  · exact (x_wk (n2 := false) (n3 := false) rfl (x_rU (As := [va_rf a0, va_rf a1, va_rf a2]) X h hM (rec_t (k := 0) ht (by decide) rfl) cpu_v_Free_piece_50 (va_Decl.of (X.gx.hts _ q1216) (X.gx.hts _ q1222)) hq rfl (ble_of (by omega)) rfl hst hroom dec))
  · exact (x_wk (n2 := false) (n3 := false) rfl (x_rU (As := [va_rf a0, va_rf a1, va_rf a2]) X h hM (rec_t (k := 1) ht (by decide) rfl) cpu_v_Free_piece_51 (va_Decl.of (X.gx.hts _ q1216) (X.gx.hts _ q1222)) hq rfl (ble_of (by omega)) rfl hst hroom dec))



set_option maxHeartbeats 4000000 in
set_option maxRecDepth 100000 in
theorem w_X16_missed {l : Launch} {D : va_G} {cx ro : Nat → Nat} {A : Nat → Prop} {TL SL : Nat} (G : Nat) (σ0 : XS) (th : Nat) (a0 : Option Nat) (a1 : Option Nat) (a2 : Option Nat) (r : XS) (hF : X_X16_missed G σ0 th a0 a1 a2 = some r) : xMet l D cx ro A TL SL yX16_missed cX16_missed 4 none 18 false wx_X16_missed [.ref th, va_rf a0, va_rf a1, va_rf a2] σ0 none r := by
  refine x_of (l9 := [(0, some (.ref th)), (1, some (va_rf a0)), (2, some (va_rf a1)), (3, some (va_rf a2))]) (by decide) (by cases a0 <;> cases a1 <;> cases a2 <;> exact Nat.le_of_ble_eq_true rfl) (by cases a0 <;> cases a1 <;> cases a2 <;> rfl) ?_
  intro p e s m args below meth c ls X K hnm hl hlm
  have ha : agW false wx_X16_missed σ0 σ0 := agW.rf
  unfold X_X16_missed at hF
  refine g_aload_n (i := 0) K hl dX16_missed_0 rfl rfl ?_
  refine g_aloadR_n (i := 1) K hl dX16_missed_1 rfl rfl ?_
  refine g_aloadR_n (i := 2) K hl dX16_missed_2 rfl rfl ?_
  refine g_aloadR_n (i := 3) K hl dX16_missed_3 rfl rfl ?_
  have hlZ := hl
  obtain ⟨q1, hq9, k9, hk9, ht9, hZ⟩ := nnS_i hF
  cases hq9
  have hF := hZ
  clear hZ
  have hl := hlZ
  clear hlZ
  refine x_callV hF ha rfl (fun t h => x_rSU X hl (w_X21_missed _ _ _ _ _ t h) (rec_t ht9 hk9 rfl) cpsu_X21_missed q1213 q1212 rfl rfl rfl rfl (cat_room rfl) dX16_missed_4) (fun σ2 hF ha => ?_)
  refine g_aload_n (i := 0) K hl dX16_missed_7 rfl rfl ?_
  refine g_aloadR_n (i := 1) K hl dX16_missed_8 rfl rfl ?_
  refine g_aloadR_n (i := 2) K hl dX16_missed_9 rfl rfl ?_
  refine g_aloadR_n (i := 3) K hl dX16_missed_10 rfl rfl ?_
  refine x_callV hF ha rfl (fun t h => xr_v_Free_piece X hl (w_v_Free_piece _ _ _ _ _ t h) q1215 rfl rfl (cat_room rfl) dX16_missed_11) (fun σ3 hF ha => ?_)
  refine g_aloadR_n (i := 3) K hl dX16_missed_14 rfl rfl ?_
  refine xg_X16_34 X hF dX16_missed_15 (fun t4 hF => ?_)
  refine g_iconst K dX16_missed_18 lc_m1 ?_
  refine g_icmp_ne (tgt := 28) K hF dX16_missed_19 (by decide) (fun hF => ?_) (fun hF => ?_)
  · exact x_vretV X hF ha dX16_missed_28
  · refine g_aloadR_n (i := 1) K hl dX16_missed_22 rfl rfl ?_
    refine g_aloadR_n (i := 2) K hl dX16_missed_23 rfl rfl ?_
    refine g_aloadR_n (i := 3) K hl dX16_missed_24 rfl rfl ?_
    have hlZ := hl
    obtain ⟨q5, hq9, ht_q5, hZ⟩ := nnX_i hF
    cases hq9
    have hF := hZ
    clear hZ
    have hl := hlZ
    clear hlZ
    refine x_callV hF ha rfl (fun t h => x_rV X hl (w_X1_pushFrom G _ _ _ _ t h) ht_q5 rfl rfl cpx_X1_pushFrom q1224 rfl rfl rfl rfl (cat_room rfl) dX16_missed_25) (fun σ6 hF ha => ?_)
    exact x_vretV X hF ha dX16_missed_28

def vm_v_Try_missed (l : Launch) (D : va_G) (cx ro : Nat → Nat) (A : Nat → Prop) (TL SL : Nat) (σ : XS) (r : Option Nat) (a0 : Option Nat) (a1 : Option Nat) (a2 : Option Nat) (z : XS) : Prop := ∃ q, r = some q ∧ ((tg σ q = 50 ∧ xMet l D cx ro A TL SL yX16_missed cX16_missed 4 none 18 false wx_X16_missed [.ref q, va_rf a0, va_rf a1, va_rf a2] σ none z) ∨ (tg σ q = 51 ∧ xMet l D cx ro A TL SL yX16_missed cX16_missed 4 none 18 false wx_X16_missed [.ref q, va_rf a0, va_rf a1, va_rf a2] σ none z) ∨ (tg σ q = 52 ∧ xMet l D cx ro A TL SL yX21_missed cX21_missed 4 none 0 false wx_X21_missed [.ref q, va_rf a0, va_rf a1, va_rf a2] σ none z) ∨ (tg σ q = 53 ∧ xMet l D cx ro A TL SL yX21_missed cX21_missed 4 none 0 false wx_X21_missed [.ref q, va_rf a0, va_rf a1, va_rf a2] σ none z) ∨ (tg σ q = 54 ∧ xMet l D cx ro A TL SL yX21_missed cX21_missed 4 none 0 false wx_X21_missed [.ref q, va_rf a0, va_rf a1, va_rf a2] σ none z))
set_option maxHeartbeats 4000000 in
theorem w_v_Try_missed {l : Launch} {D : va_G} {cx ro : Nat → Nat} {A : Nat → Prop} {TL SL : Nat} (G : Nat) (σ : XS) (r : Option Nat) (a0 : Option Nat) (a1 : Option Nat) (a2 : Option Nat) (z : XS) (hF : X_v_Try_missed G σ r a0 a1 a2 = some z) : vm_v_Try_missed l D cx ro A TL SL σ r a0 a1 a2 z := by
  unfold X_v_Try_missed at hF
  cases r with
  | none => exact absurd hF (fun h => by cases h)
  | some q =>
    refine ⟨q, rfl, ?_⟩
    dsimp only at hF
    by_cases ht : tg σ q = 50
    · rw [if_pos ht] at hF
      exact Or.inl ⟨ht, w_X16_missed G _ _ _ _ _ _ hF⟩
    rw [if_neg ht] at hF
    by_cases ht : tg σ q = 51
    · rw [if_pos ht] at hF
      exact Or.inr (Or.inl ⟨ht, w_X16_missed G _ _ _ _ _ _ hF⟩)
    rw [if_neg ht] at hF
    by_cases ht : tg σ q = 52
    · rw [if_pos ht] at hF
      exact Or.inr (Or.inr (Or.inl ⟨ht, w_X21_missed _ _ _ _ _ _ hF⟩))
    rw [if_neg ht] at hF
    by_cases ht : tg σ q = 53
    · rw [if_pos ht] at hF
      exact Or.inr (Or.inr (Or.inr (Or.inl ⟨ht, w_X21_missed _ _ _ _ _ _ hF⟩)))
    rw [if_neg ht] at hF
    by_cases ht : tg σ q = 54
    · rw [if_pos ht] at hF
      exact Or.inr (Or.inr (Or.inr (Or.inr (⟨ht, w_X21_missed _ _ _ _ _ _ hF⟩))))
    rw [if_neg ht] at hF
    exact absurd hF (fun h => by cases h)

theorem cpu_v_Try_missed_50 : cpU "TubBites$Free" ({ cls := "TubBites$Try", name := "missed", desc := "(LTubBites$Water;LTubBites$Bobber;LTubBites$Apple;)V" } : MethodName) yX16_missed cX16_missed 4 none 3 := ⟨q1208, q1209, q1210, q2357, q1211, by decide +kernel⟩
theorem cpu_v_Try_missed_51 : cpU "TubBites$Stalked" ({ cls := "TubBites$Try", name := "missed", desc := "(LTubBites$Water;LTubBites$Bobber;LTubBites$Apple;)V" } : MethodName) yX16_missed cX16_missed 4 none 3 := ⟨q1208, q1242, q1210, q2357, q1211, by decide +kernel⟩
theorem cpu_v_Try_missed_52 : cpU "TubBites$Walled" ({ cls := "TubBites$Try", name := "missed", desc := "(LTubBites$Water;LTubBites$Bobber;LTubBites$Apple;)V" } : MethodName) yX21_missed cX21_missed 4 none 3 := ⟨q1208, q1243, q1207, q2362, q1214, by decide +kernel⟩
theorem cpu_v_Try_missed_53 : cpU "TubBites$Grounded" ({ cls := "TubBites$Try", name := "missed", desc := "(LTubBites$Water;LTubBites$Bobber;LTubBites$Apple;)V" } : MethodName) yX21_missed cX21_missed 4 none 3 := ⟨q1208, q1240, q1207, q2362, q1214, by decide +kernel⟩
theorem cpu_v_Try_missed_54 : cpU "TubBites$Leaned" ({ cls := "TubBites$Try", name := "missed", desc := "(LTubBites$Water;LTubBites$Bobber;LTubBites$Apple;)V" } : MethodName) yX21_missed cX21_missed 4 none 3 := ⟨q1208, q1241, q1207, q2362, q1214, by decide +kernel⟩
set_option maxHeartbeats 4000000 in
theorem xr_v_Try_missed {p : Program} {l : Launch} {e : Env} {s : State} {m : MethodId} {args : Array Value} {below : List Frame} {meth : Method} {c : Code} {cc : ByteArray} {nL : Nat} {own : String} {D : va_G} {cx ro : Nat → Nat} {A : Nat → Prop} {ret : Option FieldType} {ls : Array Slot} {lq0 : List (Nat × Option Value)} {pc : Nat} {rest st : List Value} {TL SL t0 s0 : Nat} {d index : Nat} {σ : XS} {r : Option Nat} {a0 : Option Nat} {a1 : Option Nat} {a2 : Option Nat} {z : XS} (X : XX p m c cc nL s args meth D cx ro A ret own) (h : lq ls nL lq0) (hM : vm_v_Try_missed l D cx ro A TL SL σ r a0 a1 a2 z) (hq : Cond.methodLink own index ({ cls := "TubBites$Try", name := "missed", desc := "(LTubBites$Water;LTubBites$Bobber;LTubBites$Apple;)V" } : MethodName) ∈ lw_all) (hd1 : Nat.ble (18 + 1) d = true) (hst : st = [va_rf a0, va_rf a1, va_rf a2].reverse ++ va_rf r :: rest) (hroom : (rest.map fun v => v.category).sum ≤ 8) (dec : decode cc pc = .ok (.invokevirtual index, 3)) :
    RunX p l e (xRoom d (TL - t0) (SL - s0)) s m args below meth c D cx ro A TL SL t0 s0 (F0 m pc ls st) rest false wx_v_Try_missed σ none z ((va_rf r) :: [va_rf a0, va_rf a1, va_rf a2]).toArray := by
  obtain ⟨q, rfl, hM⟩ := hM
  have hd1 := Nat.le_of_ble_eq_true hd1
  rcases hM with ⟨ht, hM⟩ | ⟨ht, hM⟩ | ⟨ht, hM⟩ | ⟨ht, hM⟩ | ⟨ht, hM⟩
  · exact (x_wk (n2 := false) (n3 := false) rfl (x_rU (As := [va_rf a0, va_rf a1, va_rf a2]) X h hM (rec_t (k := 0) ht (by decide) rfl) cpu_v_Try_missed_50 (va_Decl.of (X.gx.hts _ q1207) (X.gx.hts _ q1214)) hq rfl (ble_of (by omega)) rfl hst hroom dec))
  · exact (x_wk (n2 := false) (n3 := false) rfl (x_rU (As := [va_rf a0, va_rf a1, va_rf a2]) X h hM (rec_t (k := 1) ht (by decide) rfl) cpu_v_Try_missed_51 (va_Decl.of (X.gx.hts _ q1207) (X.gx.hts _ q1214)) hq rfl (ble_of (by omega)) rfl hst hroom dec))
  · exact (x_wk (n2 := false) (n3 := false) rfl (x_rU (As := [va_rf a0, va_rf a1, va_rf a2]) X h hM (rec_t (k := 2) ht (by decide) rfl) cpu_v_Try_missed_52 (va_Decl.of (X.gx.hts _ q1207) (X.gx.hts _ q1214)) hq rfl (ble_of (by omega)) rfl hst hroom dec))
  · exact (x_wk (n2 := false) (n3 := false) rfl (x_rU (As := [va_rf a0, va_rf a1, va_rf a2]) X h hM (rec_t (k := 3) ht (by decide) rfl) cpu_v_Try_missed_53 (va_Decl.of (X.gx.hts _ q1207) (X.gx.hts _ q1214)) hq rfl (ble_of (by omega)) rfl hst hroom dec))
  · exact (x_wk (n2 := false) (n3 := false) rfl (x_rU (As := [va_rf a0, va_rf a1, va_rf a2]) X h hM (rec_t (k := 4) ht (by decide) rfl) cpu_v_Try_missed_54 (va_Decl.of (X.gx.hts _ q1207) (X.gx.hts _ q1214)) hq rfl (ble_of (by omega)) rfl hst hroom dec))


theorem cpx_X1_go : cpV yX1_go cX1_go 8 (some .boolean) 3 := ⟨q1181, q1182, q146, q1183, by decide +kernel⟩
set_option maxHeartbeats 4000000 in
set_option maxRecDepth 100000 in
theorem w_X1_go {l : Launch} {D : va_G} {cx ro : Nat → Nat} {A : Nat → Prop} {TL SL : Nat} (G : Nat) (σ0 : XS) (th : Nat) (a0 : Int32) (a1 : Int32) (a2 : Int32) (r : (Int32 × XS)) (hF : X_X1_go ro G σ0 th a0 a1 a2 = some r) : xMet l D cx ro A TL SL yX1_go cX1_go 8 (some .boolean) 194 false wx_X1_go [.ref th, .int a0, .int a1, .int a2] σ0 (some (.int r.1)) r.2 := by
  refine x_of (l9 := [(0, some (.ref th)), (1, some (.int a0)), (2, some (.int a1)), (3, some (.int a2))]) (by decide) (by exact Nat.le_of_ble_eq_true rfl) (by rfl) ?_
  intro p e s m args below meth c ls X K hnm hl hlm
  have L117 : ∀ (σ : XS) (x1 : Int32) (x3 : Int32) (x4 : Option Nat) (x5 : Option Nat) (x6 : Int32) (x7 : Int32) (s0 : Option Nat) (s1 : Int32) (s2 : Int32) (s3 : Int32) (ls : Array Slot), X_X1_go_L117 ro G th  σ x1 x3 x4 x5 x6 x7 s0 s1 s2 s3 = some r → agW false wx_X1_go σ0 σ → lq ls 8 [(0, some (.ref th)), (1, some (.int x1)), (3, some (.int x3)), (4, some (va_rf x4)), (5, some (va_rf x5)), (6, some (.int x6)), (7, some (.int x7))] → ZX p l e 194 TL SL s m args below meth c D cx ro A false wx_X1_go σ0 (some (.int r.1)) r.2 σ (F0 m 117 ls [.int s3, .int s2, .int s1, va_rf s0]) := by
    intro  σ x1 x3 x4 x5 x6 x7 s0 s1 s2 s3 ls hF ha hl
    unfold X_X1_go_L117 at hF
    refine g_iadd K dX1_go_117 ?_
    refine x_iast X hF ha rfl dX1_go_118 (fun σ1 hF ha => ?_)
    refine g_aloadR (i := 4) K hl dX1_go_119 rfl ?_
    refine xg_X1_203 X hF dX1_go_121 (fun t2 hF => ?_)
    refine g_iconst K dX1_go_124 lc_3 ?_
    refine g_iload_n (i := 3) K hl dX1_go_125 rfl rfl ?_
    refine g_imul K dX1_go_126 ?_
    refine g_iconst K dX1_go_127 lc_2 ?_
    refine g_iadd K dX1_go_128 ?_
    refine g_dup2 K dX1_go_129 rfl (rf_cat _) ?_
    refine x_iald X hF dX1_go_130 (fun t3 hF => ?_)
    refine g_iload (i := 6) K hl dX1_go_131 rfl ?_
    refine g_iadd K dX1_go_133 ?_
    refine x_iast X hF ha rfl dX1_go_134 (fun σ4 hF ha => ?_)
    refine g_iload (i := 7) K hl dX1_go_135 rfl ?_
    refine g_if_eq (tgt := 160) K hF dX1_go_137 (by decide) (fun hF => ?_) (fun hF => ?_)
    · refine x_getsN (j := 0) X rfl (List.mem_of_getElem? (i := 53) rfl) dX1_go_160 ?_
      refine g_iload_n (i := 3) K hl dX1_go_163 rfl rfl ?_
      refine x_aald X hF dX1_go_164 (fun t5 hF => ?_)
      refine g_aload_n (i := 0) K hl dX1_go_165 rfl rfl ?_
      refine g_aloadR (i := 4) K hl dX1_go_166 rfl ?_
      refine g_aloadR (i := 5) K hl dX1_go_168 rfl ?_
      refine x_callV hF ha rfl (fun t h => xr_v_Try_missed X hl (w_v_Try_missed G _ _ _ _ _ t h) q1206 rfl rfl (cat_room rfl) dX1_go_170) (fun σ6 hF ha => ?_)
      refine g_iload (i := 7) K hl dX1_go_173 rfl ?_
      obtain ⟨hz, hF⟩ := bzI_i hF
      exact x_zretW X hF hz ha dX1_go_175
    · refine g_aloadR (i := 5) K hl dX1_go_140 rfl ?_
      refine g_iload_n (i := 1) K hl dX1_go_142 rfl rfl ?_
      refine xp_X1_73 X hF ha rfl dX1_go_143 (fun σ7 hF ha => ?_)
      refine g_aloadR (i := 4) K hl dX1_go_146 rfl ?_
      refine g_dup K dX1_go_148 (rf_cat _) ?_
      refine xg_X1_206 X hF dX1_go_149 (fun t8 hF => ?_)
      refine g_iconst K dX1_go_152 lc_1 ?_
      refine g_iadd K dX1_go_153 ?_
      refine xp_X1_206 X hF ha rfl dX1_go_154 (fun σ9 hF ha => ?_)
      refine g_goto (tgt := 173) K dX1_go_157 (by decide) ?_
      refine g_iload (i := 7) K hl dX1_go_173 rfl ?_
      obtain ⟨hz, hF⟩ := bzI_i hF
      exact x_zretW X hF hz ha dX1_go_175
  have L80 : ∀ (σ : XS) (x1 : Int32) (x3 : Int32) (x4 : Option Nat) (x5 : Option Nat) (x6 : Int32) (s0 : Int32) (ls : Array Slot), X_X1_go_L80 ro G th  σ x1 x3 x4 x5 x6 s0 = some r → agW false wx_X1_go σ0 σ → lq ls 8 [(0, some (.ref th)), (1, some (.int x1)), (3, some (.int x3)), (4, some (va_rf x4)), (5, some (va_rf x5)), (6, some (.int x6))] → ZX p l e 194 TL SL s m args below meth c D cx ro A false wx_X1_go σ0 (some (.int r.1)) r.2 σ (F0 m 80 ls [.int s0]) := by
    intro  σ x1 x3 x4 x5 x6 s0 ls hF ha hl
    unfold X_X1_go_L80 at hF
    refine g_istore (i := 7) K hl dX1_go_80 rfl rfl (fun ls hl => ?_)
    refine g_aloadR (i := 4) K hl dX1_go_82 rfl ?_
    refine xg_X1_203 X hF dX1_go_84 (fun t1 hF => ?_)
    refine g_iconst K dX1_go_87 lc_3 ?_
    refine g_iload_n (i := 3) K hl dX1_go_88 rfl rfl ?_
    refine g_imul K dX1_go_89 ?_
    refine g_dup2 K dX1_go_90 rfl (rf_cat _) ?_
    refine x_iald X hF dX1_go_91 (fun t2 hF => ?_)
    refine g_iconst K dX1_go_92 lc_1 ?_
    refine g_iadd K dX1_go_93 ?_
    refine x_iast X hF ha rfl dX1_go_94 (fun σ3 hF ha => ?_)
    refine g_aloadR (i := 4) K hl dX1_go_95 rfl ?_
    refine xg_X1_203 X hF dX1_go_97 (fun t4 hF => ?_)
    refine g_iconst K dX1_go_100 lc_3 ?_
    refine g_iload_n (i := 3) K hl dX1_go_101 rfl rfl ?_
    refine g_imul K dX1_go_102 ?_
    refine g_iconst K dX1_go_103 lc_1 ?_
    refine g_iadd K dX1_go_104 ?_
    refine g_dup2 K dX1_go_105 rfl (rf_cat _) ?_
    refine x_iald X hF dX1_go_106 (fun t5 hF => ?_)
    refine g_iload (i := 7) K hl dX1_go_107 rfl ?_
    refine g_if_eq (tgt := 116) K hF dX1_go_109 (by decide) (fun hF => ?_) (fun hF => ?_)
    · refine g_iconst K dX1_go_116 lc_0 ?_
      exact L117  _ _ _ _ _ _ _ _ _ _ _ ls hF ha (lq_sub hl rfl)
    · refine g_iconst K dX1_go_112 lc_1 ?_
      refine g_goto (tgt := 117) K dX1_go_113 (by decide) ?_
      exact L117  _ _ _ _ _ _ _ _ _ _ _ ls hF ha (lq_sub hl rfl)
  have ha : agW false wx_X1_go σ0 σ0 := agW.rf
  unfold X_X1_go at hF
  refine g_aload_n (i := 0) K hl dX1_go_0 rfl rfl ?_
  refine xg_X1_31 X hF dX1_go_1 (fun t1 hF => ?_)
  refine g_iload_n (i := 1) K hl dX1_go_4 rfl rfl ?_
  have hlZ := hl
  obtain ⟨q2, hq9, ht_q2, hZ⟩ := nnX_i hF
  cases hq9
  have hF := hZ
  clear hZ
  have hl := hlZ
  clear hlZ
  refine x_callP (V := va_rf) hF (fun t h => x_rV X hl (w_J2_get _ _ _ t h) ht_q2 rfl rfl cpx_J2_get q983 rfl rfl rfl rfl (cat_room rfl) dX1_go_5) (fun t3 hF => ?_)
  refine x_cast X hF rfl q989 dX1_go_8 (fun hF => ?_)
  refine g_astoreR (i := 4) K hl dX1_go_11 rfl rfl (fun ls hl => ?_)
  refine g_aload_n (i := 0) K hl dX1_go_13 rfl rfl ?_
  refine xg_X1_28 X hF dX1_go_14 (fun t4 hF => ?_)
  refine g_iload_n (i := 2) K hl dX1_go_17 rfl rfl ?_
  have hlZ := hl
  obtain ⟨q5, hq9, ht_q5, hZ⟩ := nnX_i hF
  cases hq9
  have hF := hZ
  clear hZ
  have hl := hlZ
  clear hlZ
  refine x_callP (V := va_rf) hF (fun t h => x_rV X hl (w_J2_get _ _ _ t h) ht_q5 rfl rfl cpx_J2_get q983 rfl rfl rfl rfl (cat_room rfl) dX1_go_18) (fun t6 hF => ?_)
  refine x_cast X hF rfl q984 dX1_go_21 (fun hF => ?_)
  refine g_astoreR (i := 5) K hl dX1_go_24 rfl (lkn_rf rfl) (fun ls hl => ?_)
  refine g_aload_n (i := 0) K hl dX1_go_26 rfl rfl ?_
  refine g_aloadR (i := 4) K hl dX1_go_27 rfl ?_
  refine g_aloadR (i := 5) K hl dX1_go_29 rfl ?_
  refine g_iload_n (i := 3) K hl dX1_go_31 rfl rfl ?_
  have hlZ := hl
  obtain ⟨q7, hq9, ht_q7, hZ⟩ := nnX_i hF
  cases hq9
  have hF := hZ
  clear hZ
  have hl := hlZ
  clear hlZ
  refine x_callW (V := Value.int) hF ha rfl (fun t h => x_rV X hl (w_X1_odds _ _ _ _ _ t h) ht_q7 rfl rfl cpx_X1_odds q1152 rfl rfl rfl rfl (cat_room rfl) dX1_go_32) (fun t8 σ9 hF ha => ?_)
  refine g_istore (i := 6) K hl dX1_go_35 rfl (lkn_rf rfl) (fun ls hl => ?_)
  refine g_aload_n (i := 0) K hl dX1_go_37 rfl rfl ?_
  refine g_aload_n (i := 0) K hl dX1_go_38 rfl rfl ?_
  refine xg_X1_70 X hF dX1_go_39 (fun t10 hF => ?_)
  refine g_sipush K dX1_go_42 ls_137 ?_
  refine g_imul K dX1_go_45 ?_
  refine g_bipush K dX1_go_46 lb_71 ?_
  refine g_iadd K dX1_go_48 ?_
  refine g_sipush K dX1_go_49 ls_1000 ?_
  refine g_iremT K hF dX1_go_52 (fun t11 hF => ?_)
  refine xp_X1_70 X hF ha rfl dX1_go_53 (fun σ12 hF ha => ?_)
  refine g_aload_n (i := 0) K hl dX1_go_56 rfl rfl ?_
  refine g_aloadR (i := 4) K hl dX1_go_57 rfl ?_
  refine g_iload_n (i := 3) K hl dX1_go_59 rfl rfl ?_
  have hlZ := hl
  obtain ⟨q13, hq9, ht_q13, hZ⟩ := nnX_i hF
  cases hq9
  have hF := hZ
  clear hZ
  have hl := hlZ
  clear hlZ
  refine x_callV hF ha rfl (fun t h => x_rV X hl (w_X1_takes _ _ _ _ t h) ht_q13 rfl rfl cpx_X1_takes q1184 rfl rfl rfl rfl (cat_room rfl) dX1_go_60) (fun σ14 hF ha => ?_)
  refine g_aload_n (i := 0) K hl dX1_go_63 rfl rfl ?_
  refine xg_X1_70 X hF dX1_go_64 (fun t15 hF => ?_)
  refine g_bipush K dX1_go_67 lb_10 ?_
  refine g_idivT K hF dX1_go_69 (fun t16 hF => ?_)
  refine g_iload (i := 6) K hl dX1_go_70 rfl ?_
  refine g_icmp_ge (tgt := 79) K hF dX1_go_72 (by decide) (fun hF => ?_) (fun hF => ?_)
  · refine g_iconst K dX1_go_79 lc_0 ?_
    exact L80  _ _ _ _ _ _ _ ls hF ha (lq_sub hl rfl)
  · refine g_iconst K dX1_go_75 lc_1 ?_
    refine g_goto (tgt := 80) K dX1_go_76 (by decide) ?_
    exact L80  _ _ _ _ _ _ _ ls hF ha (lq_sub hl rfl)

theorem cpx_X0_go : cpV yX0_go cX0_go 4 (some .int) 3 := ⟨q1154, q1155, q145, q1156, by decide +kernel⟩
set_option maxHeartbeats 4000000 in
set_option maxRecDepth 100000 in
theorem w_X0_go {l : Launch} {D : va_G} {cx ro : Nat → Nat} {A : Nat → Prop} {TL SL : Nat} (G : Nat) (σ0 : XS) (th : Nat) (a0 : Int32) (a1 : Int32) (a2 : Int32) (r : (Int32 × XS)) (hF : X_X0_go TL SL ro G σ0 th a0 a1 a2 = some r) : xMet l D cx ro A TL SL yX0_go cX0_go 4 (some .int) 195 true wx_X0_go [.ref th, .int a0, .int a1, .int a2] σ0 (some (.int r.1)) r.2 := by
  refine x_of (l9 := [(0, some (.ref th)), (1, some (.int a0)), (2, some (.int a1)), (3, some (.int a2))]) (by decide) (by exact Nat.le_of_ble_eq_true rfl) (by rfl) ?_
  intro p e s m args below meth c ls X K hnm hl hlm
  have ha : agW true wx_X0_go σ0 σ0 := agW.rf
  unfold X_X0_go at hF
  refine g_aload_n (i := 0) K hl dX0_go_0 rfl rfl ?_
  refine g_iload_n (i := 1) K hl dX0_go_1 rfl rfl ?_
  refine g_iload_n (i := 2) K hl dX0_go_2 rfl rfl ?_
  refine g_iload_n (i := 3) K hl dX0_go_3 rfl rfl ?_
  have hlZ := hl
  obtain ⟨q1, hq9, ht_q1, hZ⟩ := nnX_i hF
  cases hq9
  have hF := hZ
  clear hZ
  have hl := hlZ
  clear hlZ
  refine x_callP (V := Value.int) hF (fun t h => x_rV X hl (w_X0_isTry G _ _ _ _ _ t h) ht_q1 rfl rfl cpx_X0_isTry q1025 rfl rfl rfl rfl (cat_room rfl) dX0_go_4) (fun t2 hF => ?_)
  refine g_if_ne (tgt := 12) K hF dX0_go_7 (by decide) (fun hF => ?_) (fun hF => ?_)
  · refine g_aload_n (i := 0) K hl dX0_go_12 rfl rfl ?_
    have hlZ := hl
    obtain ⟨q3, hq9, ht_q3, hZ⟩ := nnX_i hF
    cases hq9
    have hF := hZ
    clear hZ
    have hl := hlZ
    clear hlZ
    refine x_callV hF ha rfl (fun t h => x_rV X hl (w_X0_keepAct G _ _  t h) ht_q3 rfl rfl cpx_X0_keepAct q1157 rfl rfl rfl rfl (cat_room rfl) dX0_go_13) (fun σ4 hF ha => ?_)
    refine g_aload_n (i := 0) K hl dX0_go_16 rfl rfl ?_
    refine xg_X0_12 X hF dX0_go_17 (fun t5 hF => ?_)
    refine g_iload_n (i := 1) K hl dX0_go_20 rfl rfl ?_
    refine g_iload_n (i := 2) K hl dX0_go_21 rfl rfl ?_
    refine g_iload_n (i := 3) K hl dX0_go_22 rfl rfl ?_
    have hlZ := hl
    obtain ⟨q6, hq9, ht_q6, hZ⟩ := nnX_i hF
    cases hq9
    have hF := hZ
    clear hZ
    have hl := hlZ
    clear hlZ
    refine x_callW (V := Value.int) hF ha rfl (fun t h => x_rV X hl (w_X1_go G _ _ _ _ _ t h) ht_q6 rfl rfl cpx_X1_go q1180 rfl rfl rfl rfl (cat_room rfl) dX0_go_23) (fun t7 σ8 hF ha => ?_)
    refine g_if_eq (tgt := 33) K hF dX0_go_26 (by decide) (fun hF => ?_) (fun hF => ?_)
    · refine g_iconst K dX0_go_33 lc_0 ?_
      exact x_iretW X hF ha dX0_go_34
    · refine g_iconst K dX0_go_29 lc_1 ?_
      refine g_goto (tgt := 34) K dX0_go_30 (by decide) ?_
      exact x_iretW X hF ha dX0_go_34
  · refine g_iconst K dX0_go_10 lc_m1 ?_
    exact x_iretW X hF ha dX0_go_11

theorem cpx_X1_breathes : cpV yX1_breathes cX1_breathes 2 none 1 := ⟨q1249, q1250, q146, q1251, by decide +kernel⟩
set_option maxHeartbeats 4000000 in
set_option maxRecDepth 100000 in
theorem w_X1_breathes {l : Launch} {D : va_G} {cx ro : Nat → Nat} {A : Nat → Prop} {TL SL : Nat}  (σ0 : XS) (th : Nat) (a0 : Option Nat) (r : XS) (hF : X_X1_breathes σ0 th a0 = some r) : xMet l D cx ro A TL SL yX1_breathes cX1_breathes 2 none 0 false wx_X1_breathes [.ref th, va_rf a0] σ0 none r := by
  refine x_of (l9 := [(0, some (.ref th)), (1, some (va_rf a0))]) (by decide) (by cases a0 <;> exact Nat.le_of_ble_eq_true rfl) (by cases a0 <;> rfl) ?_
  intro p e s m args below meth c ls X K hnm hl hlm
  have ha : agW false wx_X1_breathes σ0 σ0 := agW.rf
  unfold X_X1_breathes at hF
  refine g_aloadR_n (i := 1) K hl dX1_breathes_0 rfl rfl ?_
  refine g_dup K dX1_breathes_1 (rf_cat _) ?_
  refine xg_X1_194 X hF dX1_breathes_2 (fun t1 hF => ?_)
  refine g_iconst K dX1_breathes_5 lc_2 ?_
  refine g_iadd K dX1_breathes_6 ?_
  refine xp_X1_194 X hF ha rfl dX1_breathes_7 (fun σ2 hF ha => ?_)
  refine g_aloadR_n (i := 1) K hl dX1_breathes_10 rfl rfl ?_
  refine g_aloadR_n (i := 1) K hl dX1_breathes_11 rfl rfl ?_
  refine xg_X1_212 X hF dX1_breathes_12 (fun t3 hF => ?_)
  refine xp_X1_144 X hF ha rfl dX1_breathes_15 (fun σ4 hF ha => ?_)
  exact x_vretV X hF ha dX1_breathes_18

theorem cpx_X0_breathe : cpV yX0_breathe cX0_breathe 2 (some .int) 1 := ⟨q1245, q1246, q145, q1247, by decide +kernel⟩
set_option maxHeartbeats 4000000 in
set_option maxRecDepth 100000 in
theorem w_X0_breathe {l : Launch} {D : va_G} {cx ro : Nat → Nat} {A : Nat → Prop} {TL SL : Nat} (G : Nat) (σ0 : XS) (th : Nat) (a0 : Int32) (r : (Int32 × XS)) (hF : X_X0_breathe TL SL ro G σ0 th a0 = some r) : xMet l D cx ro A TL SL yX0_breathe cX0_breathe 2 (some .int) 11 true wx_X0_breathe [.ref th, .int a0] σ0 (some (.int r.1)) r.2 := by
  refine x_of (l9 := [(0, some (.ref th)), (1, some (.int a0))]) (by decide) (by exact Nat.le_of_ble_eq_true rfl) (by rfl) ?_
  intro p e s m args below meth c ls X K hnm hl hlm
  have ha : agW true wx_X0_breathe σ0 σ0 := agW.rf
  unfold X_X0_breathe at hF
  refine g_aload_n (i := 0) K hl dX0_breathe_0 rfl rfl ?_
  refine g_iload_n (i := 1) K hl dX0_breathe_1 rfl rfl ?_
  have hlZ := hl
  obtain ⟨q1, hq9, ht_q1, hZ⟩ := nnX_i hF
  cases hq9
  have hF := hZ
  clear hZ
  have hl := hlZ
  clear hlZ
  refine x_callP (V := Value.int) hF (fun t h => x_rV X hl (w_X0_isBobber _ _ _ t h) ht_q1 rfl rfl cpx_X0_isBobber q1016 rfl rfl rfl rfl (cat_room rfl) dX0_breathe_2) (fun t2 hF => ?_)
  refine g_if_ne (tgt := 10) K hF dX0_breathe_5 (by decide) (fun hF => ?_) (fun hF => ?_)
  · refine g_aload_n (i := 0) K hl dX0_breathe_10 rfl rfl ?_
    have hlZ := hl
    obtain ⟨q3, hq9, ht_q3, hZ⟩ := nnX_i hF
    cases hq9
    have hF := hZ
    clear hZ
    have hl := hlZ
    clear hlZ
    refine x_callV hF ha rfl (fun t h => x_rV X hl (w_X0_keepAct G _ _  t h) ht_q3 rfl rfl cpx_X0_keepAct q1157 rfl rfl rfl rfl (cat_room rfl) dX0_breathe_11) (fun σ4 hF ha => ?_)
    refine g_aload_n (i := 0) K hl dX0_breathe_14 rfl rfl ?_
    refine xg_X0_12 X hF dX0_breathe_15 (fun t5 hF => ?_)
    refine g_aload_n (i := 0) K hl dX0_breathe_18 rfl rfl ?_
    refine xg_X0_12 X hF dX0_breathe_19 (fun t6 hF => ?_)
    refine xg_X0_94 X hF dX0_breathe_22 (fun t7 hF => ?_)
    refine g_iload_n (i := 1) K hl dX0_breathe_25 rfl rfl ?_
    have hlZ := hl
    obtain ⟨q8, hq9, ht_q8, hZ⟩ := nnX_i hF
    cases hq9
    have hF := hZ
    clear hZ
    have hl := hlZ
    clear hlZ
    refine x_callP (V := va_rf) hF (fun t h => x_rV X hl (w_J2_get _ _ _ t h) ht_q8 rfl rfl cpx_J2_get q1010 rfl rfl rfl rfl (cat_room rfl) dX0_breathe_26) (fun t9 hF => ?_)
    refine x_cast X hF rfl q1020 dX0_breathe_29 (fun hF => ?_)
    have hlZ := hl
    obtain ⟨q10, hq9, ht_q10, hZ⟩ := nnX_i hF
    cases hq9
    have hF := hZ
    clear hZ
    have hl := hlZ
    clear hlZ
    refine x_callV hF ha rfl (fun t h => x_rV X hl (w_X1_breathes _ _ _ t h) ht_q10 rfl rfl cpx_X1_breathes q1248 rfl rfl rfl rfl (cat_room rfl) dX0_breathe_32) (fun σ11 hF ha => ?_)
    refine g_aload_n (i := 0) K hl dX0_breathe_35 rfl rfl ?_
    refine xg_X0_12 X hF dX0_breathe_36 (fun t12 hF => ?_)
    refine xg_X0_94 X hF dX0_breathe_39 (fun t13 hF => ?_)
    refine g_iload_n (i := 1) K hl dX0_breathe_42 rfl rfl ?_
    have hlZ := hl
    obtain ⟨q14, hq9, ht_q14, hZ⟩ := nnX_i hF
    cases hq9
    have hF := hZ
    clear hZ
    have hl := hlZ
    clear hlZ
    refine x_callP (V := va_rf) hF (fun t h => x_rV X hl (w_J2_get _ _ _ t h) ht_q14 rfl rfl cpx_J2_get q1010 rfl rfl rfl rfl (cat_room rfl) dX0_breathe_43) (fun t15 hF => ?_)
    refine x_cast X hF rfl q1020 dX0_breathe_46 (fun hF => ?_)
    refine xg_X0_164 X hF dX0_breathe_49 (fun t16 hF => ?_)
    exact x_iretW X hF ha dX0_breathe_52
  · refine g_iconst K dX0_breathe_8 lc_m1 ?_
    exact x_iretW X hF ha dX0_breathe_9

theorem cpx_X1_drifts : cpV yX1_drifts cX1_drifts 4 (some .boolean) 3 := ⟨q1262, qs46, q146, q1263, by decide +kernel⟩
set_option maxHeartbeats 4000000 in
set_option maxRecDepth 100000 in
theorem w_X1_drifts {l : Launch} {D : va_G} {cx ro : Nat → Nat} {A : Nat → Prop} {TL SL : Nat} (G : Nat) (σ0 : XS) (th : Nat) (a0 : Option Nat) (a1 : Int32) (a2 : Int32) (r : (Int32 × XS)) (hF : X_X1_drifts G σ0 th a0 a1 a2 = some r) : xMet l D cx ro A TL SL yX1_drifts cX1_drifts 4 (some .boolean) 4 false wx_X1_drifts [.ref th, va_rf a0, .int a1, .int a2] σ0 (some (.int r.1)) r.2 := by
  refine x_of (l9 := [(0, some (.ref th)), (1, some (va_rf a0)), (2, some (.int a1)), (3, some (.int a2))]) (by decide) (by cases a0 <;> exact Nat.le_of_ble_eq_true rfl) (by cases a0 <;> rfl) ?_
  intro p e s m args below meth c ls X K hnm hl hlm
  have ha : agW false wx_X1_drifts σ0 σ0 := agW.rf
  unfold X_X1_drifts at hF
  refine g_aload_n (i := 0) K hl dX1_drifts_0 rfl rfl ?_
  refine g_aloadR_n (i := 1) K hl dX1_drifts_1 rfl rfl ?_
  refine xg_X1_76 X hF dX1_drifts_2 (fun t1 hF => ?_)
  refine g_iload_n (i := 2) K hl dX1_drifts_5 rfl rfl ?_
  refine g_iadd K dX1_drifts_6 ?_
  refine g_aloadR_n (i := 1) K hl dX1_drifts_7 rfl rfl ?_
  refine xg_X1_79 X hF dX1_drifts_8 (fun t2 hF => ?_)
  refine g_iload_n (i := 3) K hl dX1_drifts_11 rfl rfl ?_
  refine g_iadd K dX1_drifts_12 ?_
  have hlZ := hl
  obtain ⟨q3, hq9, ht_q3, hZ⟩ := nnX_i hF
  cases hq9
  have hF := hZ
  clear hZ
  have hl := hlZ
  clear hlZ
  refine x_callP (V := Value.int) hF (fun t h => x_rV X hl (w_X1_isCell _ _ _ _ t h) ht_q3 rfl rfl cpx_X1_isCell q1234 rfl rfl rfl rfl (cat_room rfl) dX1_drifts_13) (fun t4 hF => ?_)
  refine g_if_eq (tgt := 38) K hF dX1_drifts_16 (by decide) (fun hF => ?_) (fun hF => ?_)
  · refine g_iconst K dX1_drifts_38 lc_0 ?_
    exact x_zretW X hF (Or.inl rfl) ha dX1_drifts_39
  · refine g_aload_n (i := 0) K hl dX1_drifts_19 rfl rfl ?_
    refine g_aloadR_n (i := 1) K hl dX1_drifts_20 rfl rfl ?_
    refine xg_X1_76 X hF dX1_drifts_21 (fun t5 hF => ?_)
    refine g_iload_n (i := 2) K hl dX1_drifts_24 rfl rfl ?_
    refine g_iadd K dX1_drifts_25 ?_
    refine g_aloadR_n (i := 1) K hl dX1_drifts_26 rfl rfl ?_
    refine xg_X1_79 X hF dX1_drifts_27 (fun t6 hF => ?_)
    refine g_iload_n (i := 3) K hl dX1_drifts_30 rfl rfl ?_
    refine g_iadd K dX1_drifts_31 ?_
    have hlZ := hl
    obtain ⟨q7, hq9, ht_q7, hZ⟩ := nnX_i hF
    cases hq9
    have hF := hZ
    clear hZ
    have hl := hlZ
    clear hlZ
    refine x_callP (V := va_rf) hF (fun t h => x_rV X hl (w_X1_at G _ _ _ _ t h) ht_q7 rfl rfl cpx_X1_at q1239 rfl rfl rfl rfl (cat_room rfl) dX1_drifts_32) (fun t8 hF => ?_)
    refine g_ifnull (tgt := 40) K hF dX1_drifts_35 (by decide) (fun hF => ?_) (fun hF => ?_)
    · refine g_aloadR_n (i := 1) K hl dX1_drifts_40 rfl rfl ?_
      refine g_dup K dX1_drifts_41 (rf_cat _) ?_
      refine xg_X1_76 X hF dX1_drifts_42 (fun t9 hF => ?_)
      refine g_iload_n (i := 2) K hl dX1_drifts_45 rfl rfl ?_
      refine g_iadd K dX1_drifts_46 ?_
      refine xp_X1_76 X hF ha rfl dX1_drifts_47 (fun σ10 hF ha => ?_)
      refine g_aloadR_n (i := 1) K hl dX1_drifts_50 rfl rfl ?_
      refine g_dup K dX1_drifts_51 (rf_cat _) ?_
      refine xg_X1_79 X hF dX1_drifts_52 (fun t11 hF => ?_)
      refine g_iload_n (i := 3) K hl dX1_drifts_55 rfl rfl ?_
      refine g_iadd K dX1_drifts_56 ?_
      refine xp_X1_79 X hF ha rfl dX1_drifts_57 (fun σ12 hF ha => ?_)
      refine g_iconst K dX1_drifts_60 lc_1 ?_
      exact x_zretW X hF (Or.inr rfl) ha dX1_drifts_61
    · refine g_iconst K dX1_drifts_38 lc_0 ?_
      exact x_zretW X hF (Or.inl rfl) ha dX1_drifts_39

theorem cpx_X1_wave : cpV yX1_wave cX1_wave 9 (some .int) 1 := ⟨q1257, q1258, q146, q1259, by decide +kernel⟩
set_option maxHeartbeats 4000000 in
set_option maxRecDepth 100000 in
theorem w_X1_wave {l : Launch} {D : va_G} {cx ro : Nat → Nat} {A : Nat → Prop} {TL SL : Nat} (G : Nat) (σ0 : XS) (th : Nat) (a0 : Int32) (r : (Int32 × XS)) (hF : X_X1_wave G σ0 th a0 = some r) : xMet l D cx ro A TL SL yX1_wave cX1_wave 9 (some .int) 5 false wx_X1_wave [.ref th, .int a0] σ0 (some (.int r.1)) r.2 := by
  refine x_of (l9 := [(0, some (.ref th)), (1, some (.int a0))]) (by decide) (by exact Nat.le_of_ble_eq_true rfl) (by rfl) ?_
  intro p e s m args below meth c ls X K hnm hl hlm
  have L146 : ∀ (k45 : XS → Int32 → Int32 → Int32 → Int32 → Option (Int32 × XS)) (hk45 : (∀ (σ : XS) (x2 : Int32) (x3 : Int32) (x4 : Int32) (x5 : Int32) (ls : Array Slot), k45 σ x2 x3 x4 x5 = some r → agW false wx_X1_wave σ0 σ → lq ls 9 [(0, some (.ref th)), (2, some (.int x2)), (3, some (.int x3)), (4, some (.int x4)), (5, some (.int x5))] → ZX p l e 5 TL SL s m args below meth c D cx ro A false wx_X1_wave σ0 (some (.int r.1)) r.2 σ (F0 m 45 ls []))) (k68 : XS → Int32 → Int32 → Int32 → Int32 → Int32 → Option (Int32 × XS)) (hk68 : (∀ (σ : XS) (x2 : Int32) (x3 : Int32) (x4 : Int32) (x5 : Int32) (x6 : Int32) (ls : Array Slot), k68 σ x2 x3 x4 x5 x6 = some r → agW false wx_X1_wave σ0 σ → lq ls 9 [(0, some (.ref th)), (2, some (.int x2)), (3, some (.int x3)), (4, some (.int x4)), (5, some (.int x5)), (6, some (.int x6))] → ZX p l e 5 TL SL s m args below meth c D cx ro A false wx_X1_wave σ0 (some (.int r.1)) r.2 σ (F0 m 68 ls []))) (σ : XS) (x2 : Int32) (x3 : Int32) (x4 : Int32) (x5 : Int32) (x6 : Int32) (s0 : Option Nat) (ls : Array Slot), X_X1_wave_L146 G th k45 k68 σ x2 x3 x4 x5 x6 s0 = some r → agW false wx_X1_wave σ0 σ → lq ls 9 [(0, some (.ref th)), (2, some (.int x2)), (3, some (.int x3)), (4, some (.int x4)), (5, some (.int x5)), (6, some (.int x6))] → ZX p l e 5 TL SL s m args below meth c D cx ro A false wx_X1_wave σ0 (some (.int r.1)) r.2 σ (F0 m 146 ls [va_rf s0]) := by
    intro k45 hk45 k68 hk68 σ x2 x3 x4 x5 x6 s0 ls hF ha hl
    unfold X_X1_wave_L146 at hF
    refine g_astoreR (i := 8) K hl dX1_wave_146 rfl rfl (fun ls hl => ?_)
    refine g_aloadR (i := 8) K hl dX1_wave_148 rfl ?_
    refine g_ifnull (tgt := 167) K hF dX1_wave_150 (by decide) (fun hF => ?_) (fun hF => ?_)
    · refine g_iinc (i := 6) K hl dX1_wave_167 rfl lc_1 rfl rfl (fun ls hl => ?_)
      refine g_goto (tgt := 68) K dX1_wave_170 (by decide) ?_
      exact hk68 _ _ _ _ _ _ ls hF ha (lq_sub hl rfl)
    · refine g_aload_n (i := 0) K hl dX1_wave_153 rfl rfl ?_
      refine g_aloadR (i := 8) K hl dX1_wave_154 rfl ?_
      refine g_iload_n (i := 2) K hl dX1_wave_156 rfl rfl ?_
      refine g_iload_n (i := 3) K hl dX1_wave_157 rfl rfl ?_
      have hlZ := hl
      obtain ⟨q1, hq9, ht_q1, hZ⟩ := nnX_i hF
      cases hq9
      have hF := hZ
      clear hZ
      have hl := hlZ
      clear hlZ
      refine x_callW (V := Value.int) hF ha rfl (fun t h => x_rV X hl (w_X1_drifts G _ _ _ _ _ t h) ht_q1 rfl rfl cpx_X1_drifts q1260 rfl rfl rfl rfl (cat_room rfl) dX1_wave_158) (fun t2 σ3 hF ha => ?_)
      refine g_if_eq (tgt := 167) K hF dX1_wave_161 (by decide) (fun hF => ?_) (fun hF => ?_)
      · refine g_iinc (i := 6) K hl dX1_wave_167 rfl lc_1 rfl rfl (fun ls hl => ?_)
        refine g_goto (tgt := 68) K dX1_wave_170 (by decide) ?_
        exact hk68 _ _ _ _ _ _ ls hF ha (lq_sub hl rfl)
      · refine g_iinc (i := 4) K hl dX1_wave_164 rfl lc_1 rfl rfl (fun ls hl => ?_)
        refine g_iinc (i := 6) K hl dX1_wave_167 rfl lc_1 rfl rfl (fun ls hl => ?_)
        refine g_goto (tgt := 68) K dX1_wave_170 (by decide) ?_
        exact hk68 _ _ _ _ _ _ ls hF ha (lq_sub hl rfl)
  have L121 : ∀ (k45 : XS → Int32 → Int32 → Int32 → Int32 → Option (Int32 × XS)) (hk45 : (∀ (σ : XS) (x2 : Int32) (x3 : Int32) (x4 : Int32) (x5 : Int32) (ls : Array Slot), k45 σ x2 x3 x4 x5 = some r → agW false wx_X1_wave σ0 σ → lq ls 9 [(0, some (.ref th)), (2, some (.int x2)), (3, some (.int x3)), (4, some (.int x4)), (5, some (.int x5))] → ZX p l e 5 TL SL s m args below meth c D cx ro A false wx_X1_wave σ0 (some (.int r.1)) r.2 σ (F0 m 45 ls []))) (k68 : XS → Int32 → Int32 → Int32 → Int32 → Int32 → Option (Int32 × XS)) (hk68 : (∀ (σ : XS) (x2 : Int32) (x3 : Int32) (x4 : Int32) (x5 : Int32) (x6 : Int32) (ls : Array Slot), k68 σ x2 x3 x4 x5 x6 = some r → agW false wx_X1_wave σ0 σ → lq ls 9 [(0, some (.ref th)), (2, some (.int x2)), (3, some (.int x3)), (4, some (.int x4)), (5, some (.int x5)), (6, some (.int x6))] → ZX p l e 5 TL SL s m args below meth c D cx ro A false wx_X1_wave σ0 (some (.int r.1)) r.2 σ (F0 m 68 ls []))) (σ : XS) (x2 : Int32) (x3 : Int32) (x4 : Int32) (x5 : Int32) (x6 : Int32) (s0 : Int32) (ls : Array Slot), X_X1_wave_L121 G th k45 k68 σ x2 x3 x4 x5 x6 s0 = some r → agW false wx_X1_wave σ0 σ → lq ls 9 [(0, some (.ref th)), (2, some (.int x2)), (3, some (.int x3)), (4, some (.int x4)), (5, some (.int x5)), (6, some (.int x6))] → ZX p l e 5 TL SL s m args below meth c D cx ro A false wx_X1_wave σ0 (some (.int r.1)) r.2 σ (F0 m 121 ls [.int s0]) := by
    intro k45 hk45 k68 hk68 σ x2 x3 x4 x5 x6 s0 ls hF ha hl
    unfold X_X1_wave_L121 at hF
    refine g_istore (i := 7) K hl dX1_wave_121 rfl rfl (fun ls hl => ?_)
    refine g_iload_n (i := 2) K hl dX1_wave_123 rfl rfl ?_
    refine g_if_eq (tgt := 138) K hF dX1_wave_124 (by decide) (fun hF => ?_) (fun hF => ?_)
    · refine g_aload_n (i := 0) K hl dX1_wave_138 rfl rfl ?_
      refine g_iload (i := 6) K hl dX1_wave_139 rfl ?_
      refine g_iload (i := 7) K hl dX1_wave_141 rfl ?_
      have hlZ := hl
      obtain ⟨q1, hq9, ht_q1, hZ⟩ := nnX_i hF
      cases hq9
      have hF := hZ
      clear hZ
      have hl := hlZ
      clear hlZ
      refine x_callP (V := va_rf) hF (fun t h => x_rV X hl (w_X1_at G _ _ _ _ t h) ht_q1 rfl rfl cpx_X1_at q1239 rfl rfl rfl rfl (cat_room rfl) dX1_wave_143) (fun t2 hF => ?_)
      exact L146 k45 hk45 k68 hk68 _ _ _ _ _ _ _ ls hF ha (lq_sub hl rfl)
    · refine g_aload_n (i := 0) K hl dX1_wave_127 rfl rfl ?_
      refine g_iload (i := 7) K hl dX1_wave_128 rfl ?_
      refine g_iload (i := 6) K hl dX1_wave_130 rfl ?_
      have hlZ := hl
      obtain ⟨q3, hq9, ht_q3, hZ⟩ := nnX_i hF
      cases hq9
      have hF := hZ
      clear hZ
      have hl := hlZ
      clear hlZ
      refine x_callP (V := va_rf) hF (fun t h => x_rV X hl (w_X1_at G _ _ _ _ t h) ht_q3 rfl rfl cpx_X1_at q1239 rfl rfl rfl rfl (cat_room rfl) dX1_wave_132) (fun t4 hF => ?_)
      refine g_goto (tgt := 146) K dX1_wave_135 (by decide) ?_
      exact L146 k45 hk45 k68 hk68 _ _ _ _ _ _ _ ls hF ha (lq_sub hl rfl)
  have L111 : ∀ (k45 : XS → Int32 → Int32 → Int32 → Int32 → Option (Int32 × XS)) (hk45 : (∀ (σ : XS) (x2 : Int32) (x3 : Int32) (x4 : Int32) (x5 : Int32) (ls : Array Slot), k45 σ x2 x3 x4 x5 = some r → agW false wx_X1_wave σ0 σ → lq ls 9 [(0, some (.ref th)), (2, some (.int x2)), (3, some (.int x3)), (4, some (.int x4)), (5, some (.int x5))] → ZX p l e 5 TL SL s m args below meth c D cx ro A false wx_X1_wave σ0 (some (.int r.1)) r.2 σ (F0 m 45 ls []))) (k68 : XS → Int32 → Int32 → Int32 → Int32 → Int32 → Option (Int32 × XS)) (hk68 : (∀ (σ : XS) (x2 : Int32) (x3 : Int32) (x4 : Int32) (x5 : Int32) (x6 : Int32) (ls : Array Slot), k68 σ x2 x3 x4 x5 x6 = some r → agW false wx_X1_wave σ0 σ → lq ls 9 [(0, some (.ref th)), (2, some (.int x2)), (3, some (.int x3)), (4, some (.int x4)), (5, some (.int x5)), (6, some (.int x6))] → ZX p l e 5 TL SL s m args below meth c D cx ro A false wx_X1_wave σ0 (some (.int r.1)) r.2 σ (F0 m 68 ls []))) (σ : XS) (x2 : Int32) (x3 : Int32) (x4 : Int32) (x5 : Int32) (x6 : Int32) (s0 : Int32) (ls : Array Slot), X_X1_wave_L111 G th k45 k68 σ x2 x3 x4 x5 x6 s0 = some r → agW false wx_X1_wave σ0 σ → lq ls 9 [(0, some (.ref th)), (2, some (.int x2)), (3, some (.int x3)), (4, some (.int x4)), (5, some (.int x5)), (6, some (.int x6))] → ZX p l e 5 TL SL s m args below meth c D cx ro A false wx_X1_wave σ0 (some (.int r.1)) r.2 σ (F0 m 111 ls [.int s0]) := by
    intro k45 hk45 k68 hk68 σ x2 x3 x4 x5 x6 s0 ls hF ha hl
    unfold X_X1_wave_L111 at hF
    refine g_iconst K dX1_wave_111 lc_1 ?_
    refine g_isub K dX1_wave_112 ?_
    refine g_iload (i := 5) K hl dX1_wave_113 rfl ?_
    refine g_isub K dX1_wave_115 ?_
    refine g_goto (tgt := 121) K dX1_wave_116 (by decide) ?_
    exact L121 k45 hk45 k68 hk68 _ _ _ _ _ _ _ ls hF ha (lq_sub hl rfl)
  have L96 : ∀ (k45 : XS → Int32 → Int32 → Int32 → Int32 → Option (Int32 × XS)) (hk45 : (∀ (σ : XS) (x2 : Int32) (x3 : Int32) (x4 : Int32) (x5 : Int32) (ls : Array Slot), k45 σ x2 x3 x4 x5 = some r → agW false wx_X1_wave σ0 σ → lq ls 9 [(0, some (.ref th)), (2, some (.int x2)), (3, some (.int x3)), (4, some (.int x4)), (5, some (.int x5))] → ZX p l e 5 TL SL s m args below meth c D cx ro A false wx_X1_wave σ0 (some (.int r.1)) r.2 σ (F0 m 45 ls []))) (k68 : XS → Int32 → Int32 → Int32 → Int32 → Int32 → Option (Int32 × XS)) (hk68 : (∀ (σ : XS) (x2 : Int32) (x3 : Int32) (x4 : Int32) (x5 : Int32) (x6 : Int32) (ls : Array Slot), k68 σ x2 x3 x4 x5 x6 = some r → agW false wx_X1_wave σ0 σ → lq ls 9 [(0, some (.ref th)), (2, some (.int x2)), (3, some (.int x3)), (4, some (.int x4)), (5, some (.int x5)), (6, some (.int x6))] → ZX p l e 5 TL SL s m args below meth c D cx ro A false wx_X1_wave σ0 (some (.int r.1)) r.2 σ (F0 m 68 ls []))) (σ : XS) (x2 : Int32) (x3 : Int32) (x4 : Int32) (x5 : Int32) (x6 : Int32) (ls : Array Slot), X_X1_wave_L96 G th k45 k68 σ x2 x3 x4 x5 x6 = some r → agW false wx_X1_wave σ0 σ → lq ls 9 [(0, some (.ref th)), (2, some (.int x2)), (3, some (.int x3)), (4, some (.int x4)), (5, some (.int x5)), (6, some (.int x6))] → ZX p l e 5 TL SL s m args below meth c D cx ro A false wx_X1_wave σ0 (some (.int r.1)) r.2 σ (F0 m 96 ls []) := by
    intro k45 hk45 k68 hk68 σ x2 x3 x4 x5 x6 ls hF ha hl
    unfold X_X1_wave_L96 at hF
    refine g_iload_n (i := 2) K hl dX1_wave_96 rfl rfl ?_
    refine g_if_eq (tgt := 107) K hF dX1_wave_97 (by decide) (fun hF => ?_) (fun hF => ?_)
    · refine g_aload_n (i := 0) K hl dX1_wave_107 rfl rfl ?_
      refine xg_X1_48 X hF dX1_wave_108 (fun t1 hF => ?_)
      exact L111 k45 hk45 k68 hk68 _ _ _ _ _ _ _ ls hF ha (lq_sub hl rfl)
    · refine g_aload_n (i := 0) K hl dX1_wave_100 rfl rfl ?_
      refine xg_X1_41 X hF dX1_wave_101 (fun t2 hF => ?_)
      refine g_goto (tgt := 111) K dX1_wave_104 (by decide) ?_
      exact L111 k45 hk45 k68 hk68 _ _ _ _ _ _ _ ls hF ha (lq_sub hl rfl)
  have L85 : ∀ (k45 : XS → Int32 → Int32 → Int32 → Int32 → Option (Int32 × XS)) (hk45 : (∀ (σ : XS) (x2 : Int32) (x3 : Int32) (x4 : Int32) (x5 : Int32) (ls : Array Slot), k45 σ x2 x3 x4 x5 = some r → agW false wx_X1_wave σ0 σ → lq ls 9 [(0, some (.ref th)), (2, some (.int x2)), (3, some (.int x3)), (4, some (.int x4)), (5, some (.int x5))] → ZX p l e 5 TL SL s m args below meth c D cx ro A false wx_X1_wave σ0 (some (.int r.1)) r.2 σ (F0 m 45 ls []))) (k68 : XS → Int32 → Int32 → Int32 → Int32 → Int32 → Option (Int32 × XS)) (hk68 : (∀ (σ : XS) (x2 : Int32) (x3 : Int32) (x4 : Int32) (x5 : Int32) (x6 : Int32) (ls : Array Slot), k68 σ x2 x3 x4 x5 x6 = some r → agW false wx_X1_wave σ0 σ → lq ls 9 [(0, some (.ref th)), (2, some (.int x2)), (3, some (.int x3)), (4, some (.int x4)), (5, some (.int x5)), (6, some (.int x6))] → ZX p l e 5 TL SL s m args below meth c D cx ro A false wx_X1_wave σ0 (some (.int r.1)) r.2 σ (F0 m 68 ls []))) (σ : XS) (x2 : Int32) (x3 : Int32) (x4 : Int32) (x5 : Int32) (x6 : Int32) (s0 : Int32) (s1 : Int32) (ls : Array Slot), X_X1_wave_L85 G th k45 k68 σ x2 x3 x4 x5 x6 s0 s1 = some r → agW false wx_X1_wave σ0 σ → lq ls 9 [(0, some (.ref th)), (2, some (.int x2)), (3, some (.int x3)), (4, some (.int x4)), (5, some (.int x5)), (6, some (.int x6))] → ZX p l e 5 TL SL s m args below meth c D cx ro A false wx_X1_wave σ0 (some (.int r.1)) r.2 σ (F0 m 85 ls [.int s1, .int s0]) := by
    intro k45 hk45 k68 hk68 σ x2 x3 x4 x5 x6 s0 s1 ls hF ha hl
    unfold X_X1_wave_L85 at hF
    refine g_icmp_ge (tgt := 173) K hF dX1_wave_85 (by decide) (fun hF => ?_) (fun hF => ?_)
    · refine g_iinc (i := 5) K hl dX1_wave_173 rfl lc_1 rfl rfl (fun ls hl => ?_)
      refine g_goto (tgt := 45) K dX1_wave_176 (by decide) ?_
      exact hk45 _ _ _ _ _ ls hF ha (lq_sub hl rfl)
    · refine g_iload_n (i := 2) K hl dX1_wave_88 rfl rfl ?_
      refine g_if_gt (tgt := 96) K hF dX1_wave_89 (by decide) (fun hF => ?_) (fun hF => ?_)
      · exact L96 k45 hk45 k68 hk68 _ _ _ _ _ _ ls hF ha (lq_sub hl rfl)
      · refine g_iload_n (i := 3) K hl dX1_wave_92 rfl rfl ?_
        refine g_if_le (tgt := 119) K hF dX1_wave_93 (by decide) (fun hF => ?_) (fun hF => ?_)
        · refine g_iload (i := 5) K hl dX1_wave_119 rfl ?_
          exact L121 k45 hk45 k68 hk68 _ _ _ _ _ _ _ ls hF ha (lq_sub hl rfl)
        · exact L96 k45 hk45 k68 hk68 _ _ _ _ _ _ ls hF ha (lq_sub hl rfl)
  have B68 : ∀ (k45 : XS → Int32 → Int32 → Int32 → Int32 → Option (Int32 × XS)) (hk45 : (∀ (σ : XS) (x2 : Int32) (x3 : Int32) (x4 : Int32) (x5 : Int32) (ls : Array Slot), k45 σ x2 x3 x4 x5 = some r → agW false wx_X1_wave σ0 σ → lq ls 9 [(0, some (.ref th)), (2, some (.int x2)), (3, some (.int x3)), (4, some (.int x4)), (5, some (.int x5))] → ZX p l e 5 TL SL s m args below meth c D cx ro A false wx_X1_wave σ0 (some (.int r.1)) r.2 σ (F0 m 45 ls []))) (k68 : XS → Int32 → Int32 → Int32 → Int32 → Int32 → Option (Int32 × XS)) (hk68 : (∀ (σ : XS) (x2 : Int32) (x3 : Int32) (x4 : Int32) (x5 : Int32) (x6 : Int32) (ls : Array Slot), k68 σ x2 x3 x4 x5 x6 = some r → agW false wx_X1_wave σ0 σ → lq ls 9 [(0, some (.ref th)), (2, some (.int x2)), (3, some (.int x3)), (4, some (.int x4)), (5, some (.int x5)), (6, some (.int x6))] → ZX p l e 5 TL SL s m args below meth c D cx ro A false wx_X1_wave σ0 (some (.int r.1)) r.2 σ (F0 m 68 ls []))) (σ : XS) (x2 : Int32) (x3 : Int32) (x4 : Int32) (x5 : Int32) (x6 : Int32) (ls : Array Slot), X_X1_wave_B68 G th k45 k68 σ x2 x3 x4 x5 x6 = some r → agW false wx_X1_wave σ0 σ → lq ls 9 [(0, some (.ref th)), (2, some (.int x2)), (3, some (.int x3)), (4, some (.int x4)), (5, some (.int x5)), (6, some (.int x6))] → ZX p l e 5 TL SL s m args below meth c D cx ro A false wx_X1_wave σ0 (some (.int r.1)) r.2 σ (F0 m 68 ls []) := by
    intro k45 hk45 k68 hk68 σ x2 x3 x4 x5 x6 ls hF ha hl
    unfold X_X1_wave_B68 at hF
    refine g_iload (i := 6) K hl dX1_wave_68 rfl ?_
    refine g_iload_n (i := 2) K hl dX1_wave_70 rfl rfl ?_
    refine g_if_eq (tgt := 81) K hF dX1_wave_71 (by decide) (fun hF => ?_) (fun hF => ?_)
    · refine g_aload_n (i := 0) K hl dX1_wave_81 rfl rfl ?_
      refine xg_X1_41 X hF dX1_wave_82 (fun t1 hF => ?_)
      exact L85 k45 hk45 k68 hk68 _ _ _ _ _ _ _ _ ls hF ha (lq_sub hl rfl)
    · refine g_aload_n (i := 0) K hl dX1_wave_74 rfl rfl ?_
      refine xg_X1_48 X hF dX1_wave_75 (fun t2 hF => ?_)
      refine g_goto (tgt := 85) K dX1_wave_78 (by decide) ?_
      exact L85 k45 hk45 k68 hk68 _ _ _ _ _ _ _ _ ls hF ha (lq_sub hl rfl)
  have L68 : ∀ (k45 : XS → Int32 → Int32 → Int32 → Int32 → Option (Int32 × XS)) (hk45 : (∀ (σ : XS) (x2 : Int32) (x3 : Int32) (x4 : Int32) (x5 : Int32) (ls : Array Slot), k45 σ x2 x3 x4 x5 = some r → agW false wx_X1_wave σ0 σ → lq ls 9 [(0, some (.ref th)), (2, some (.int x2)), (3, some (.int x3)), (4, some (.int x4)), (5, some (.int x5))] → ZX p l e 5 TL SL s m args below meth c D cx ro A false wx_X1_wave σ0 (some (.int r.1)) r.2 σ (F0 m 45 ls []))) (n : Nat) (σ : XS) (x2 : Int32) (x3 : Int32) (x4 : Int32) (x5 : Int32) (x6 : Int32) (ls : Array Slot), X_X1_wave_L68 G th k45 n σ x2 x3 x4 x5 x6 = some r → agW false wx_X1_wave σ0 σ → lq ls 9 [(0, some (.ref th)), (2, some (.int x2)), (3, some (.int x3)), (4, some (.int x4)), (5, some (.int x5)), (6, some (.int x6))] → ZX p l e 5 TL SL s m args below meth c D cx ro A false wx_X1_wave σ0 (some (.int r.1)) r.2 σ (F0 m 68 ls []) := by
    intro k45 hk45 n
    induction n with
    | zero => intro σ x2 x3 x4 x5 x6 ls hF; exact absurd hF (fun h => by cases h)
    | succ n ih => intro σ x2 x3 x4 x5 x6 ls hF ha hl; exact B68 k45 hk45 _ ih _ _ _ _ _ _ ls hF ha hl
  have L62 : ∀ (k45 : XS → Int32 → Int32 → Int32 → Int32 → Option (Int32 × XS)) (hk45 : (∀ (σ : XS) (x2 : Int32) (x3 : Int32) (x4 : Int32) (x5 : Int32) (ls : Array Slot), k45 σ x2 x3 x4 x5 = some r → agW false wx_X1_wave σ0 σ → lq ls 9 [(0, some (.ref th)), (2, some (.int x2)), (3, some (.int x3)), (4, some (.int x4)), (5, some (.int x5))] → ZX p l e 5 TL SL s m args below meth c D cx ro A false wx_X1_wave σ0 (some (.int r.1)) r.2 σ (F0 m 45 ls []))) (σ : XS) (x2 : Int32) (x3 : Int32) (x4 : Int32) (x5 : Int32) (s0 : Int32) (s1 : Int32) (ls : Array Slot), X_X1_wave_L62 G th k45 σ x2 x3 x4 x5 s0 s1 = some r → agW false wx_X1_wave σ0 σ → lq ls 9 [(0, some (.ref th)), (2, some (.int x2)), (3, some (.int x3)), (4, some (.int x4)), (5, some (.int x5))] → ZX p l e 5 TL SL s m args below meth c D cx ro A false wx_X1_wave σ0 (some (.int r.1)) r.2 σ (F0 m 62 ls [.int s1, .int s0]) := by
    intro k45 hk45 σ x2 x3 x4 x5 s0 s1 ls hF ha hl
    unfold X_X1_wave_L62 at hF
    refine g_icmp_ge (tgt := 179) K hF dX1_wave_62 (by decide) (fun hF => ?_) (fun hF => ?_)
    · refine g_iload (i := 4) K hl dX1_wave_179 rfl ?_
      exact x_iretW X hF ha dX1_wave_181
    · refine g_iconst K dX1_wave_65 lc_0 ?_
      refine g_istore (i := 6) K hl dX1_wave_66 rfl rfl (fun ls hl => ?_)
      exact L68 k45 hk45 G _ _ _ _ _ _ ls hF ha (lq_sub hl rfl)
  have B45 : ∀ (k45 : XS → Int32 → Int32 → Int32 → Int32 → Option (Int32 × XS)) (hk45 : (∀ (σ : XS) (x2 : Int32) (x3 : Int32) (x4 : Int32) (x5 : Int32) (ls : Array Slot), k45 σ x2 x3 x4 x5 = some r → agW false wx_X1_wave σ0 σ → lq ls 9 [(0, some (.ref th)), (2, some (.int x2)), (3, some (.int x3)), (4, some (.int x4)), (5, some (.int x5))] → ZX p l e 5 TL SL s m args below meth c D cx ro A false wx_X1_wave σ0 (some (.int r.1)) r.2 σ (F0 m 45 ls []))) (σ : XS) (x2 : Int32) (x3 : Int32) (x4 : Int32) (x5 : Int32) (ls : Array Slot), X_X1_wave_B45 G th k45 σ x2 x3 x4 x5 = some r → agW false wx_X1_wave σ0 σ → lq ls 9 [(0, some (.ref th)), (2, some (.int x2)), (3, some (.int x3)), (4, some (.int x4)), (5, some (.int x5))] → ZX p l e 5 TL SL s m args below meth c D cx ro A false wx_X1_wave σ0 (some (.int r.1)) r.2 σ (F0 m 45 ls []) := by
    intro k45 hk45 σ x2 x3 x4 x5 ls hF ha hl
    unfold X_X1_wave_B45 at hF
    refine g_iload (i := 5) K hl dX1_wave_45 rfl ?_
    refine g_iload_n (i := 2) K hl dX1_wave_47 rfl rfl ?_
    refine g_if_eq (tgt := 58) K hF dX1_wave_48 (by decide) (fun hF => ?_) (fun hF => ?_)
    · refine g_aload_n (i := 0) K hl dX1_wave_58 rfl rfl ?_
      refine xg_X1_48 X hF dX1_wave_59 (fun t1 hF => ?_)
      exact L62 k45 hk45 _ _ _ _ _ _ _ ls hF ha (lq_sub hl rfl)
    · refine g_aload_n (i := 0) K hl dX1_wave_51 rfl rfl ?_
      refine xg_X1_41 X hF dX1_wave_52 (fun t2 hF => ?_)
      refine g_goto (tgt := 62) K dX1_wave_55 (by decide) ?_
      exact L62 k45 hk45 _ _ _ _ _ _ _ ls hF ha (lq_sub hl rfl)
  have L45 : ∀ (n : Nat) (σ : XS) (x2 : Int32) (x3 : Int32) (x4 : Int32) (x5 : Int32) (ls : Array Slot), X_X1_wave_L45 G th  n σ x2 x3 x4 x5 = some r → agW false wx_X1_wave σ0 σ → lq ls 9 [(0, some (.ref th)), (2, some (.int x2)), (3, some (.int x3)), (4, some (.int x4)), (5, some (.int x5))] → ZX p l e 5 TL SL s m args below meth c D cx ro A false wx_X1_wave σ0 (some (.int r.1)) r.2 σ (F0 m 45 ls []) := by
    intro  n
    induction n with
    | zero => intro σ x2 x3 x4 x5 ls hF; exact absurd hF (fun h => by cases h)
    | succ n ih => intro σ x2 x3 x4 x5 ls hF ha hl; exact B45  _ ih _ _ _ _ _ ls hF ha hl
  have L18 : ∀ (σ : XS) (x1 : Int32) (s0 : Int32) (ls : Array Slot), X_X1_wave_L18 G th  σ x1 s0 = some r → agW false wx_X1_wave σ0 σ → lq ls 9 [(0, some (.ref th)), (1, some (.int x1))] → ZX p l e 5 TL SL s m args below meth c D cx ro A false wx_X1_wave σ0 (some (.int r.1)) r.2 σ (F0 m 18 ls [.int s0]) := by
    intro  σ x1 s0 ls hF ha hl
    unfold X_X1_wave_L18 at hF
    refine g_istore_n (i := 2) K hl dX1_wave_18 rfl rfl rfl (fun ls hl => ?_)
    refine g_iload_n (i := 1) K hl dX1_wave_19 rfl rfl ?_
    refine g_iconst K dX1_wave_20 lc_2 ?_
    refine g_icmp_ne (tgt := 28) K hF dX1_wave_21 (by decide) (fun hF => ?_) (fun hF => ?_)
    · refine g_iload_n (i := 1) K hl dX1_wave_28 rfl rfl ?_
      refine g_iconst K dX1_wave_29 lc_3 ?_
      refine g_icmp_ne (tgt := 37) K hF dX1_wave_30 (by decide) (fun hF => ?_) (fun hF => ?_)
      · refine g_iconst K dX1_wave_37 lc_0 ?_
        refine g_istore_n (i := 3) K hl dX1_wave_38 rfl rfl rfl (fun ls hl => ?_)
        refine g_iconst K dX1_wave_39 lc_0 ?_
        refine g_istore (i := 4) K hl dX1_wave_40 rfl rfl (fun ls hl => ?_)
        refine g_iconst K dX1_wave_42 lc_0 ?_
        refine g_istore (i := 5) K hl dX1_wave_43 rfl rfl (fun ls hl => ?_)
        exact L45  G _ _ _ _ _ ls hF ha (lq_sub hl rfl)
      · refine g_iconst K dX1_wave_33 lc_m1 ?_
        refine g_goto (tgt := 38) K dX1_wave_34 (by decide) ?_
        refine g_istore_n (i := 3) K hl dX1_wave_38 rfl rfl rfl (fun ls hl => ?_)
        refine g_iconst K dX1_wave_39 lc_0 ?_
        refine g_istore (i := 4) K hl dX1_wave_40 rfl rfl (fun ls hl => ?_)
        refine g_iconst K dX1_wave_42 lc_0 ?_
        refine g_istore (i := 5) K hl dX1_wave_43 rfl rfl (fun ls hl => ?_)
        exact L45  G _ _ _ _ _ ls hF ha (lq_sub hl rfl)
    · refine g_iconst K dX1_wave_24 lc_1 ?_
      refine g_goto (tgt := 38) K dX1_wave_25 (by decide) ?_
      refine g_istore_n (i := 3) K hl dX1_wave_38 rfl rfl rfl (fun ls hl => ?_)
      refine g_iconst K dX1_wave_39 lc_0 ?_
      refine g_istore (i := 4) K hl dX1_wave_40 rfl rfl (fun ls hl => ?_)
      refine g_iconst K dX1_wave_42 lc_0 ?_
      refine g_istore (i := 5) K hl dX1_wave_43 rfl rfl (fun ls hl => ?_)
      exact L45  G _ _ _ _ _ ls hF ha (lq_sub hl rfl)
  have ha : agW false wx_X1_wave σ0 σ0 := agW.rf
  unfold X_X1_wave at hF
  refine g_iload_n (i := 1) K hl dX1_wave_0 rfl rfl ?_
  refine g_if_ne (tgt := 8) K hF dX1_wave_1 (by decide) (fun hF => ?_) (fun hF => ?_)
  · refine g_iload_n (i := 1) K hl dX1_wave_8 rfl rfl ?_
    refine g_iconst K dX1_wave_9 lc_1 ?_
    refine g_icmp_ne (tgt := 17) K hF dX1_wave_10 (by decide) (fun hF => ?_) (fun hF => ?_)
    · refine g_iconst K dX1_wave_17 lc_0 ?_
      exact L18  _ _ _ ls hF ha (lq_sub hl rfl)
    · refine g_iconst K dX1_wave_13 lc_1 ?_
      refine g_goto (tgt := 18) K dX1_wave_14 (by decide) ?_
      exact L18  _ _ _ ls hF ha (lq_sub hl rfl)
  · refine g_iconst K dX1_wave_4 lc_m1 ?_
    refine g_goto (tgt := 18) K dX1_wave_5 (by decide) ?_
    exact L18  _ _ _ ls hF ha (lq_sub hl rfl)

theorem cpx_X0_wave : cpV yX0_wave cX0_wave 2 (some .int) 1 := ⟨q1253, q1254, q145, q1255, by decide +kernel⟩
set_option maxHeartbeats 4000000 in
set_option maxRecDepth 100000 in
theorem w_X0_wave {l : Launch} {D : va_G} {cx ro : Nat → Nat} {A : Nat → Prop} {TL SL : Nat} (G : Nat) (σ0 : XS) (th : Nat) (a0 : Int32) (r : (Int32 × XS)) (hF : X_X0_wave TL SL ro G σ0 th a0 = some r) : xMet l D cx ro A TL SL yX0_wave cX0_wave 2 (some .int) 11 true wx_X0_wave [.ref th, .int a0] σ0 (some (.int r.1)) r.2 := by
  refine x_of (l9 := [(0, some (.ref th)), (1, some (.int a0))]) (by decide) (by exact Nat.le_of_ble_eq_true rfl) (by rfl) ?_
  intro p e s m args below meth c ls X K hnm hl hlm
  have ha : agW true wx_X0_wave σ0 σ0 := agW.rf
  unfold X_X0_wave at hF
  refine g_iload_n (i := 1) K hl dX0_wave_0 rfl rfl ?_
  refine g_iconst K dX0_wave_1 lc_0 ?_
  refine g_iconst K dX0_wave_2 lc_3 ?_
  refine x_callP (V := Value.int) hF (fun t h => x_rS X hl (w_X0_isIn _ _ _ _ t h) cpx_X0_isIn q1007 rfl rfl rfl rfl (cat_room rfl) dX0_wave_3) (fun t1 hF => ?_)
  refine g_if_ne (tgt := 11) K hF dX0_wave_6 (by decide) (fun hF => ?_) (fun hF => ?_)
  · refine g_aload_n (i := 0) K hl dX0_wave_11 rfl rfl ?_
    have hlZ := hl
    obtain ⟨q2, hq9, ht_q2, hZ⟩ := nnX_i hF
    cases hq9
    have hF := hZ
    clear hZ
    have hl := hlZ
    clear hlZ
    refine x_callV hF ha rfl (fun t h => x_rV X hl (w_X0_keepAct G _ _  t h) ht_q2 rfl rfl cpx_X0_keepAct q1157 rfl rfl rfl rfl (cat_room rfl) dX0_wave_12) (fun σ3 hF ha => ?_)
    refine g_aload_n (i := 0) K hl dX0_wave_15 rfl rfl ?_
    refine xg_X0_12 X hF dX0_wave_16 (fun t4 hF => ?_)
    refine g_iload_n (i := 1) K hl dX0_wave_19 rfl rfl ?_
    have hlZ := hl
    obtain ⟨q5, hq9, ht_q5, hZ⟩ := nnX_i hF
    cases hq9
    have hF := hZ
    clear hZ
    have hl := hlZ
    clear hlZ
    refine x_callW (V := Value.int) hF ha rfl (fun t h => x_rV X hl (w_X1_wave G _ _ _ t h) ht_q5 rfl rfl cpx_X1_wave q1256 rfl rfl rfl rfl (cat_room rfl) dX0_wave_20) (fun t6 σ7 hF ha => ?_)
    exact x_iretW X hF ha dX0_wave_23
  · refine g_iconst K dX0_wave_9 lc_m1 ?_
    exact x_iretW X hF ha dX0_wave_10

theorem cpx_X1_turn : cpV yX1_turn cX1_turn 5 (some .boolean) 2 := ⟨q1269, q1270, q146, q1271, by decide +kernel⟩
set_option maxHeartbeats 4000000 in
set_option maxRecDepth 100000 in
theorem w_X1_turn {l : Launch} {D : va_G} {cx ro : Nat → Nat} {A : Nat → Prop} {TL SL : Nat} (G : Nat) (σ0 : XS) (th : Nat) (a0 : Int32) (a1 : Option Nat) (r : (Int32 × XS)) (hF : X_X1_turn ro G σ0 th a0 a1 = some r) : xMet l D cx ro A TL SL yX1_turn cX1_turn 5 (some .boolean) 196 false wx_X1_turn [.ref th, .int a0, va_rf a1] σ0 (some (.int r.1)) r.2 := by
  refine x_of (l9 := [(0, some (.ref th)), (1, some (.int a0)), (2, some (va_rf a1))]) (by decide) (by cases a1 <;> exact Nat.le_of_ble_eq_true rfl) (by cases a1 <;> rfl) ?_
  intro p e s m args below meth c ls X K hnm hl hlm
  have L30 : ∀ (σ : XS) (x1 : Int32) (x4 : Int32) (ls : Array Slot), X_X1_turn_L30 ro G th  σ x1 x4 = some r → agW false wx_X1_turn σ0 σ → lq ls 5 [(0, some (.ref th)), (1, some (.int x1)), (4, some (.int x4))] → ZX p l e 196 TL SL s m args below meth c D cx ro A false wx_X1_turn σ0 (some (.int r.1)) r.2 σ (F0 m 30 ls []) := by
    intro  σ x1 x4 ls hF ha hl
    unfold X_X1_turn_L30 at hF
    refine g_iload (i := 4) K hl dX1_turn_30 rfl ?_
    refine g_if_lt (tgt := 57) K hF dX1_turn_32 (by decide) (fun hF => ?_) (fun hF => ?_)
    · refine g_iconst K dX1_turn_57 lc_0 ?_
      exact x_zretW X hF (Or.inl rfl) ha dX1_turn_58
    · refine g_aload_n (i := 0) K hl dX1_turn_35 rfl rfl ?_
      refine g_iload_n (i := 1) K hl dX1_turn_36 rfl rfl ?_
      refine g_iload (i := 4) K hl dX1_turn_37 rfl ?_
      refine g_bipush K dX1_turn_39 lb_10 ?_
      refine g_idivT K hF dX1_turn_41 (fun t1 hF => ?_)
      refine g_iload (i := 4) K hl dX1_turn_42 rfl ?_
      refine g_bipush K dX1_turn_44 lb_10 ?_
      refine g_iremT K hF dX1_turn_46 (fun t2 hF => ?_)
      have hlZ := hl
      obtain ⟨q3, hq9, ht_q3, hZ⟩ := nnX_i hF
      cases hq9
      have hF := hZ
      clear hZ
      have hl := hlZ
      clear hlZ
      refine x_callW (V := Value.int) hF ha rfl (fun t h => x_rV X hl (w_X1_go G _ _ _ _ _ t h) ht_q3 rfl rfl cpx_X1_go q1274 rfl rfl rfl rfl (cat_room rfl) dX1_turn_47) (fun t4 σ5 hF ha => ?_)
      refine g_if_eq (tgt := 57) K hF dX1_turn_50 (by decide) (fun hF => ?_) (fun hF => ?_)
      · refine g_iconst K dX1_turn_57 lc_0 ?_
        exact x_zretW X hF (Or.inl rfl) ha dX1_turn_58
      · refine g_iconst K dX1_turn_53 lc_1 ?_
        refine g_goto (tgt := 58) K dX1_turn_54 (by decide) ?_
        exact x_zretW X hF (Or.inr rfl) ha dX1_turn_58
  have ha : agW false wx_X1_turn σ0 σ0 := agW.rf
  unfold X_X1_turn at hF
  refine g_aload_n (i := 0) K hl dX1_turn_0 rfl rfl ?_
  refine xg_X1_31 X hF dX1_turn_1 (fun t1 hF => ?_)
  refine g_iload_n (i := 1) K hl dX1_turn_4 rfl rfl ?_
  have hlZ := hl
  obtain ⟨q2, hq9, ht_q2, hZ⟩ := nnX_i hF
  cases hq9
  have hF := hZ
  clear hZ
  have hl := hlZ
  clear hlZ
  refine x_callP (V := va_rf) hF (fun t h => x_rV X hl (w_J2_get _ _ _ t h) ht_q2 rfl rfl cpx_J2_get q983 rfl rfl rfl rfl (cat_room rfl) dX1_turn_5) (fun t3 hF => ?_)
  refine x_cast X hF rfl q989 dX1_turn_8 (fun hF => ?_)
  refine g_astoreR_n (i := 3) K hl dX1_turn_11 rfl rfl (lkn_rf rfl) (fun ls hl => ?_)
  refine g_aload_n (i := 0) K hl dX1_turn_12 rfl rfl ?_
  refine g_aloadR_n (i := 2) K hl dX1_turn_13 rfl rfl ?_
  refine g_aloadR_n (i := 3) K hl dX1_turn_14 rfl rfl ?_
  have hlZ := hl
  obtain ⟨q4, hq9, ht_q4, hZ⟩ := nnX_i hF
  cases hq9
  have hF := hZ
  clear hZ
  have hl := hlZ
  clear hlZ
  refine x_callW (V := Value.int) hF ha rfl (fun t h => x_rV X hl (w_X1_chooses G _ _ _ _ t h) ht_q4 rfl rfl cpx_X1_chooses q1272 rfl rfl rfl rfl (cat_room rfl) dX1_turn_15) (fun t5 σ6 hF ha => ?_)
  refine g_istore (i := 4) K hl dX1_turn_18 rfl (lkn_rf rfl) (fun ls hl => ?_)
  refine g_iload (i := 4) K hl dX1_turn_20 rfl ?_
  refine g_if_ge (tgt := 30) K hF dX1_turn_22 (by decide) (fun hF => ?_) (fun hF => ?_)
  · exact L30  _ _ _ ls hF ha (lq_sub hl rfl)
  · refine g_aload_n (i := 0) K hl dX1_turn_25 rfl rfl ?_
    refine g_aloadR_n (i := 3) K hl dX1_turn_26 rfl rfl ?_
    have hlZ := hl
    obtain ⟨q7, hq9, ht_q7, hZ⟩ := nnX_i hF
    cases hq9
    have hF := hZ
    clear hZ
    have hl := hlZ
    clear hlZ
    refine x_callV hF ha rfl (fun t h => x_rV X hl (w_X1_breathes _ _ _ t h) ht_q7 rfl rfl cpx_X1_breathes q1273 rfl rfl rfl rfl (cat_room rfl) dX1_turn_27) (fun σ8 hF ha => ?_)
    exact L30  _ _ _ ls hF ha (lq_sub hl rfl)

theorem cpx_X0_party : cpV yX0_party cX0_party 5 (some .int) 1 := ⟨q1265, q1266, q145, q1267, by decide +kernel⟩
set_option maxHeartbeats 4000000 in
set_option maxRecDepth 100000 in
theorem w_X0_party {l : Launch} {D : va_G} {cx ro : Nat → Nat} {A : Nat → Prop} {TL SL : Nat} (G : Nat) (σ0 : XS) (th : Nat) (a0 : Int32) (r : (Int32 × XS)) (hF : X_X0_party TL SL ro G σ0 th a0 = some r) : xMet l D cx ro A TL SL yX0_party cX0_party 5 (some .int) 197 true wx_X0_party [.ref th, .int a0] σ0 (some (.int r.1)) r.2 := by
  refine x_of (l9 := [(0, some (.ref th)), (1, some (.int a0))]) (by decide) (by exact Nat.le_of_ble_eq_true rfl) (by rfl) ?_
  intro p e s m args below meth c ls X K hnm hl hlm
  have B28 : ∀ (k20 : XS → Int32 → Int32 → Int32 → Option (Int32 × XS)) (hk20 : (∀ (σ : XS) (x1 : Int32) (x2 : Int32) (x3 : Int32) (ls : Array Slot), k20 σ x1 x2 x3 = some r → agW true wx_X0_party σ0 σ → lq ls 5 [(0, some (.ref th)), (1, some (.int x1)), (2, some (.int x2)), (3, some (.int x3))] → ZX p l e 197 TL SL s m args below meth c D cx ro A true wx_X0_party σ0 (some (.int r.1)) r.2 σ (F0 m 20 ls []))) (k28 : XS → Int32 → Int32 → Int32 → Int32 → Option (Int32 × XS)) (hk28 : (∀ (σ : XS) (x1 : Int32) (x2 : Int32) (x3 : Int32) (x4 : Int32) (ls : Array Slot), k28 σ x1 x2 x3 x4 = some r → agW true wx_X0_party σ0 σ → lq ls 5 [(0, some (.ref th)), (1, some (.int x1)), (2, some (.int x2)), (3, some (.int x3)), (4, some (.int x4))] → ZX p l e 197 TL SL s m args below meth c D cx ro A true wx_X0_party σ0 (some (.int r.1)) r.2 σ (F0 m 28 ls []))) (σ : XS) (x1 : Int32) (x2 : Int32) (x3 : Int32) (x4 : Int32) (ls : Array Slot), X_X0_party_B28 TL SL ro G th k20 k28 σ x1 x2 x3 x4 = some r → agW true wx_X0_party σ0 σ → lq ls 5 [(0, some (.ref th)), (1, some (.int x1)), (2, some (.int x2)), (3, some (.int x3)), (4, some (.int x4))] → ZX p l e 197 TL SL s m args below meth c D cx ro A true wx_X0_party σ0 (some (.int r.1)) r.2 σ (F0 m 28 ls []) := by
    intro k20 hk20 k28 hk28 σ x1 x2 x3 x4 ls hF ha hl
    unfold X_X0_party_B28 at hF
    refine g_iload (i := 4) K hl dX0_party_28 rfl ?_
    refine g_aload_n (i := 0) K hl dX0_party_30 rfl rfl ?_
    refine xg_X0_12 X hF dX0_party_31 (fun t1 hF => ?_)
    refine xg_X0_94 X hF dX0_party_34 (fun t2 hF => ?_)
    have hlZ := hl
    obtain ⟨q3, hq9, ht_q3, hZ⟩ := nnX_i hF
    cases hq9
    have hF := hZ
    clear hZ
    have hl := hlZ
    clear hlZ
    refine x_callP (V := Value.int) hF (fun t h => x_rV X hl (w_J2_size _ _  t h) ht_q3 rfl rfl cpx_J2_size q994 rfl rfl rfl rfl (cat_room rfl) dX0_party_37) (fun t4 hF => ?_)
    refine g_icmp_ge (tgt := 75) K hF dX0_party_40 (by decide) (fun hF => ?_) (fun hF => ?_)
    · refine g_iinc (i := 3) K hl dX0_party_75 rfl lc_1 rfl rfl (fun ls hl => ?_)
      refine g_goto (tgt := 20) K dX0_party_78 (by decide) ?_
      exact hk20 _ _ _ _ ls hF ha (lq_sub hl rfl)
    · refine g_iload_n (i := 2) K hl dX0_party_43 rfl rfl ?_
      refine g_aload_n (i := 0) K hl dX0_party_44 rfl rfl ?_
      refine xg_X0_12 X hF dX0_party_45 (fun t5 hF => ?_)
      refine g_iload (i := 4) K hl dX0_party_48 rfl ?_
      refine g_aload_n (i := 0) K hl dX0_party_50 rfl rfl ?_
      refine g_iload (i := 4) K hl dX0_party_51 rfl ?_
      have hlZ := hl
      obtain ⟨q6, hq9, ht_q6, hZ⟩ := nnX_i hF
      cases hq9
      have hF := hZ
      clear hZ
      have hl := hlZ
      clear hlZ
      refine x_callP (V := va_rf) hF (fun t h => x_rV X hl (w_X0_ruleOf _ _ _ t h) ht_q6 rfl rfl cpx_X0_ruleOf q1134 rfl rfl rfl rfl (cat_room rfl) dX0_party_53) (fun t7 hF => ?_)
      have hlZ := hl
      obtain ⟨q8, hq9, ht_q8, hZ⟩ := nnX_i hF
      cases hq9
      have hF := hZ
      clear hZ
      have hl := hlZ
      clear hlZ
      refine x_callW (V := Value.int) hF ha rfl (fun t h => x_rV X hl (w_X1_turn G _ _ _ _ t h) ht_q8 rfl rfl cpx_X1_turn q1268 rfl rfl rfl rfl (cat_room rfl) dX0_party_56) (fun t9 σ10 hF ha => ?_)
      refine g_if_eq (tgt := 66) K hF dX0_party_59 (by decide) (fun hF => ?_) (fun hF => ?_)
      · refine g_iconst K dX0_party_66 lc_0 ?_
        refine g_iadd K dX0_party_67 ?_
        refine g_istore_n (i := 2) K hl dX0_party_68 rfl rfl rfl (fun ls hl => ?_)
        refine g_iinc (i := 4) K hl dX0_party_69 rfl lc_1 rfl rfl (fun ls hl => ?_)
        refine g_goto (tgt := 28) K dX0_party_72 (by decide) ?_
        exact hk28 _ _ _ _ _ ls hF ha (lq_sub hl rfl)
      · refine g_iconst K dX0_party_62 lc_1 ?_
        refine g_goto (tgt := 67) K dX0_party_63 (by decide) ?_
        refine g_iadd K dX0_party_67 ?_
        refine g_istore_n (i := 2) K hl dX0_party_68 rfl rfl rfl (fun ls hl => ?_)
        refine g_iinc (i := 4) K hl dX0_party_69 rfl lc_1 rfl rfl (fun ls hl => ?_)
        refine g_goto (tgt := 28) K dX0_party_72 (by decide) ?_
        exact hk28 _ _ _ _ _ ls hF ha (lq_sub hl rfl)
  have L28 : ∀ (k20 : XS → Int32 → Int32 → Int32 → Option (Int32 × XS)) (hk20 : (∀ (σ : XS) (x1 : Int32) (x2 : Int32) (x3 : Int32) (ls : Array Slot), k20 σ x1 x2 x3 = some r → agW true wx_X0_party σ0 σ → lq ls 5 [(0, some (.ref th)), (1, some (.int x1)), (2, some (.int x2)), (3, some (.int x3))] → ZX p l e 197 TL SL s m args below meth c D cx ro A true wx_X0_party σ0 (some (.int r.1)) r.2 σ (F0 m 20 ls []))) (n : Nat) (σ : XS) (x1 : Int32) (x2 : Int32) (x3 : Int32) (x4 : Int32) (ls : Array Slot), X_X0_party_L28 TL SL ro G th k20 n σ x1 x2 x3 x4 = some r → agW true wx_X0_party σ0 σ → lq ls 5 [(0, some (.ref th)), (1, some (.int x1)), (2, some (.int x2)), (3, some (.int x3)), (4, some (.int x4))] → ZX p l e 197 TL SL s m args below meth c D cx ro A true wx_X0_party σ0 (some (.int r.1)) r.2 σ (F0 m 28 ls []) := by
    intro k20 hk20 n
    induction n with
    | zero => intro σ x1 x2 x3 x4 ls hF; exact absurd hF (fun h => by cases h)
    | succ n ih => intro σ x1 x2 x3 x4 ls hF ha hl; exact B28 k20 hk20 _ ih _ _ _ _ _ ls hF ha hl
  have B20 : ∀ (k20 : XS → Int32 → Int32 → Int32 → Option (Int32 × XS)) (hk20 : (∀ (σ : XS) (x1 : Int32) (x2 : Int32) (x3 : Int32) (ls : Array Slot), k20 σ x1 x2 x3 = some r → agW true wx_X0_party σ0 σ → lq ls 5 [(0, some (.ref th)), (1, some (.int x1)), (2, some (.int x2)), (3, some (.int x3))] → ZX p l e 197 TL SL s m args below meth c D cx ro A true wx_X0_party σ0 (some (.int r.1)) r.2 σ (F0 m 20 ls []))) (σ : XS) (x1 : Int32) (x2 : Int32) (x3 : Int32) (ls : Array Slot), X_X0_party_B20 TL SL ro G th k20 σ x1 x2 x3 = some r → agW true wx_X0_party σ0 σ → lq ls 5 [(0, some (.ref th)), (1, some (.int x1)), (2, some (.int x2)), (3, some (.int x3))] → ZX p l e 197 TL SL s m args below meth c D cx ro A true wx_X0_party σ0 (some (.int r.1)) r.2 σ (F0 m 20 ls []) := by
    intro k20 hk20 σ x1 x2 x3 ls hF ha hl
    unfold X_X0_party_B20 at hF
    refine g_iload_n (i := 3) K hl dX0_party_20 rfl rfl ?_
    refine g_iload_n (i := 1) K hl dX0_party_21 rfl rfl ?_
    refine g_icmp_ge (tgt := 81) K hF dX0_party_22 (by decide) (fun hF => ?_) (fun hF => ?_)
    · refine g_iload_n (i := 2) K hl dX0_party_81 rfl rfl ?_
      exact x_iretW X hF ha dX0_party_82
    · refine g_iconst K dX0_party_25 lc_0 ?_
      refine g_istore (i := 4) K hl dX0_party_26 rfl rfl (fun ls hl => ?_)
      exact L28 k20 hk20 G _ _ _ _ _ ls hF ha (lq_sub hl rfl)
  have L20 : ∀ (n : Nat) (σ : XS) (x1 : Int32) (x2 : Int32) (x3 : Int32) (ls : Array Slot), X_X0_party_L20 TL SL ro G th  n σ x1 x2 x3 = some r → agW true wx_X0_party σ0 σ → lq ls 5 [(0, some (.ref th)), (1, some (.int x1)), (2, some (.int x2)), (3, some (.int x3))] → ZX p l e 197 TL SL s m args below meth c D cx ro A true wx_X0_party σ0 (some (.int r.1)) r.2 σ (F0 m 20 ls []) := by
    intro  n
    induction n with
    | zero => intro σ x1 x2 x3 ls hF; exact absurd hF (fun h => by cases h)
    | succ n ih => intro σ x1 x2 x3 ls hF ha hl; exact B20  _ ih _ _ _ _ ls hF ha hl
  have ha : agW true wx_X0_party σ0 σ0 := agW.rf
  unfold X_X0_party at hF
  refine g_iload_n (i := 1) K hl dX0_party_0 rfl rfl ?_
  refine g_iconst K dX0_party_1 lc_0 ?_
  refine g_bipush K dX0_party_2 lb_20 ?_
  refine x_callP (V := Value.int) hF (fun t h => x_rS X hl (w_X0_isIn _ _ _ _ t h) cpx_X0_isIn q1007 rfl rfl rfl rfl (cat_room rfl) dX0_party_4) (fun t1 hF => ?_)
  refine g_if_ne (tgt := 12) K hF dX0_party_7 (by decide) (fun hF => ?_) (fun hF => ?_)
  · refine g_aload_n (i := 0) K hl dX0_party_12 rfl rfl ?_
    have hlZ := hl
    obtain ⟨q2, hq9, ht_q2, hZ⟩ := nnX_i hF
    cases hq9
    have hF := hZ
    clear hZ
    have hl := hlZ
    clear hlZ
    refine x_callV hF ha rfl (fun t h => x_rV X hl (w_X0_keepAct G _ _  t h) ht_q2 rfl rfl cpx_X0_keepAct q1157 rfl rfl rfl rfl (cat_room rfl) dX0_party_13) (fun σ3 hF ha => ?_)
    refine g_iconst K dX0_party_16 lc_0 ?_
    refine g_istore_n (i := 2) K hl dX0_party_17 rfl rfl rfl (fun ls hl => ?_)
    refine g_iconst K dX0_party_18 lc_0 ?_
    refine g_istore_n (i := 3) K hl dX0_party_19 rfl rfl rfl (fun ls hl => ?_)
    exact L20  G _ _ _ _ ls hF ha (lq_sub hl rfl)
  · refine g_iconst K dX0_party_10 lc_m1 ?_
    exact x_iretW X hF ha dX0_party_11

theorem cpx_X0_undo : cpV yX0_undo cX0_undo 1 (some .boolean) 0 := ⟨q1276, q1277, q145, q1278, by decide +kernel⟩
set_option maxHeartbeats 4000000 in
set_option maxRecDepth 100000 in
theorem w_X0_undo {l : Launch} {D : va_G} {cx ro : Nat → Nat} {A : Nat → Prop} {TL SL : Nat} (G : Nat) (σ0 : XS) (th : Nat)  (r : (Int32 × XS)) (hF : X_X0_undo TL SL ro G σ0 th = some r) : xMet l D cx ro A TL SL yX0_undo cX0_undo 1 (some .boolean) 10 true wx_X0_undo [.ref th] σ0 (some (.int r.1)) r.2 := by
  refine x_of (l9 := [(0, some (.ref th))]) (by decide) (by exact Nat.le_of_ble_eq_true rfl) (by rfl) ?_
  intro p e s m args below meth c ls X K hnm hl hlm
  have ha : agW true wx_X0_undo σ0 σ0 := agW.rf
  unfold X_X0_undo at hF
  refine g_aload_n (i := 0) K hl dX0_undo_0 rfl rfl ?_
  refine xg_X0_27 X hF dX0_undo_1 (fun t1 hF => ?_)
  have hlZ := hl
  obtain ⟨q2, hq9, ht_q2, hZ⟩ := nnX_i hF
  cases hq9
  have hF := hZ
  clear hZ
  have hl := hlZ
  clear hlZ
  refine x_callP (V := Value.int) hF (fun t h => x_rV X hl (w_J2_isEmpty _ _  t h) ht_q2 rfl rfl cpx_J2_isEmpty q1138 rfl rfl rfl rfl (cat_room rfl) dX0_undo_4) (fun t3 hF => ?_)
  refine g_if_eq (tgt := 12) K hF dX0_undo_7 (by decide) (fun hF => ?_) (fun hF => ?_)
  · refine g_aload_n (i := 0) K hl dX0_undo_12 rfl rfl ?_
    refine xg_X0_31 X hF dX0_undo_13 (fun t4 hF => ?_)
    refine g_aload_n (i := 0) K hl dX0_undo_16 rfl rfl ?_
    refine g_aload_n (i := 0) K hl dX0_undo_17 rfl rfl ?_
    refine xg_X0_27 X hF dX0_undo_18 (fun t5 hF => ?_)
    refine g_aload_n (i := 0) K hl dX0_undo_21 rfl rfl ?_
    refine xg_X0_27 X hF dX0_undo_22 (fun t6 hF => ?_)
    have hlZ := hl
    obtain ⟨q7, hq9, ht_q7, hZ⟩ := nnX_i hF
    cases hq9
    have hF := hZ
    clear hZ
    have hl := hlZ
    clear hlZ
    refine x_callP (V := Value.int) hF (fun t h => x_rV X hl (w_J2_size _ _  t h) ht_q7 rfl rfl cpx_J2_size q994 rfl rfl rfl rfl (cat_room rfl) dX0_undo_25) (fun t8 hF => ?_)
    refine g_iconst K dX0_undo_28 lc_1 ?_
    refine g_isub K dX0_undo_29 ?_
    have hlZ := hl
    obtain ⟨q9, hq9, ht_q9, hZ⟩ := nnX_i hF
    cases hq9
    have hF := hZ
    clear hZ
    have hl := hlZ
    clear hlZ
    refine x_callW (V := va_rf) hF ha rfl (fun t h => x_rV X hl (w_J2_remove _ _ _ t h) ht_q9 rfl rfl cpx_J2_remove q1161 rfl rfl rfl rfl (cat_room rfl) dX0_undo_30) (fun t10 σ11 hF ha => ?_)
    refine x_cast X hF rfl q292 dX0_undo_33 (fun hF => ?_)
    have hlZ := hl
    obtain ⟨q12, hq9, ht_q12, hZ⟩ := nnX_i hF
    cases hq9
    have hF := hZ
    clear hZ
    have hl := hlZ
    clear hlZ
    refine x_callW (V := va_rf) hF ha rfl (fun t h => x_rV X hl (w_X0_turned G _ _ _ t h) ht_q12 rfl rfl cpx_X0_turned q1279 rfl rfl rfl rfl (cat_room rfl) dX0_undo_36) (fun t13 σ14 hF ha => ?_)
    have hlZ := hl
    obtain ⟨q15, hq9, ht_q15, hZ⟩ := nnX_i hF
    cases hq9
    have hF := hZ
    clear hZ
    have hl := hlZ
    clear hlZ
    refine x_callW (V := Value.int) hF ha rfl (fun t h => x_rV X hl (w_J2_add _ _ _ t h) ht_q15 rfl rfl cpx_J2_add q1179 rfl rfl rfl rfl (cat_room rfl) dX0_undo_39) (fun t16 σ17 hF ha => ?_)
    refine g_pop K dX0_undo_42 rfl ?_
    refine g_iconst K dX0_undo_43 lc_1 ?_
    exact x_zretW X hF (Or.inr rfl) ha dX0_undo_44
  · refine g_iconst K dX0_undo_10 lc_0 ?_
    exact x_zretW X hF (Or.inl rfl) ha dX0_undo_11

theorem cpx_X0_redo : cpV yX0_redo cX0_redo 1 (some .boolean) 0 := ⟨q1292, q1293, q145, q1294, by decide +kernel⟩
set_option maxHeartbeats 4000000 in
set_option maxRecDepth 100000 in
theorem w_X0_redo {l : Launch} {D : va_G} {cx ro : Nat → Nat} {A : Nat → Prop} {TL SL : Nat} (G : Nat) (σ0 : XS) (th : Nat)  (r : (Int32 × XS)) (hF : X_X0_redo TL SL ro G σ0 th = some r) : xMet l D cx ro A TL SL yX0_redo cX0_redo 1 (some .boolean) 10 true wx_X0_redo [.ref th] σ0 (some (.int r.1)) r.2 := by
  refine x_of (l9 := [(0, some (.ref th))]) (by decide) (by exact Nat.le_of_ble_eq_true rfl) (by rfl) ?_
  intro p e s m args below meth c ls X K hnm hl hlm
  have ha : agW true wx_X0_redo σ0 σ0 := agW.rf
  unfold X_X0_redo at hF
  refine g_aload_n (i := 0) K hl dX0_redo_0 rfl rfl ?_
  refine xg_X0_31 X hF dX0_redo_1 (fun t1 hF => ?_)
  have hlZ := hl
  obtain ⟨q2, hq9, ht_q2, hZ⟩ := nnX_i hF
  cases hq9
  have hF := hZ
  clear hZ
  have hl := hlZ
  clear hlZ
  refine x_callP (V := Value.int) hF (fun t h => x_rV X hl (w_J2_isEmpty _ _  t h) ht_q2 rfl rfl cpx_J2_isEmpty q1138 rfl rfl rfl rfl (cat_room rfl) dX0_redo_4) (fun t3 hF => ?_)
  refine g_if_eq (tgt := 12) K hF dX0_redo_7 (by decide) (fun hF => ?_) (fun hF => ?_)
  · refine g_aload_n (i := 0) K hl dX0_redo_12 rfl rfl ?_
    refine xg_X0_27 X hF dX0_redo_13 (fun t4 hF => ?_)
    refine g_aload_n (i := 0) K hl dX0_redo_16 rfl rfl ?_
    refine g_aload_n (i := 0) K hl dX0_redo_17 rfl rfl ?_
    refine xg_X0_31 X hF dX0_redo_18 (fun t5 hF => ?_)
    refine g_aload_n (i := 0) K hl dX0_redo_21 rfl rfl ?_
    refine xg_X0_31 X hF dX0_redo_22 (fun t6 hF => ?_)
    have hlZ := hl
    obtain ⟨q7, hq9, ht_q7, hZ⟩ := nnX_i hF
    cases hq9
    have hF := hZ
    clear hZ
    have hl := hlZ
    clear hlZ
    refine x_callP (V := Value.int) hF (fun t h => x_rV X hl (w_J2_size _ _  t h) ht_q7 rfl rfl cpx_J2_size q994 rfl rfl rfl rfl (cat_room rfl) dX0_redo_25) (fun t8 hF => ?_)
    refine g_iconst K dX0_redo_28 lc_1 ?_
    refine g_isub K dX0_redo_29 ?_
    have hlZ := hl
    obtain ⟨q9, hq9, ht_q9, hZ⟩ := nnX_i hF
    cases hq9
    have hF := hZ
    clear hZ
    have hl := hlZ
    clear hlZ
    refine x_callW (V := va_rf) hF ha rfl (fun t h => x_rV X hl (w_J2_remove _ _ _ t h) ht_q9 rfl rfl cpx_J2_remove q1161 rfl rfl rfl rfl (cat_room rfl) dX0_redo_30) (fun t10 σ11 hF ha => ?_)
    refine x_cast X hF rfl q292 dX0_redo_33 (fun hF => ?_)
    have hlZ := hl
    obtain ⟨q12, hq9, ht_q12, hZ⟩ := nnX_i hF
    cases hq9
    have hF := hZ
    clear hZ
    have hl := hlZ
    clear hlZ
    refine x_callW (V := va_rf) hF ha rfl (fun t h => x_rV X hl (w_X0_turned G _ _ _ t h) ht_q12 rfl rfl cpx_X0_turned q1279 rfl rfl rfl rfl (cat_room rfl) dX0_redo_36) (fun t13 σ14 hF ha => ?_)
    have hlZ := hl
    obtain ⟨q15, hq9, ht_q15, hZ⟩ := nnX_i hF
    cases hq9
    have hF := hZ
    clear hZ
    have hl := hlZ
    clear hlZ
    refine x_callW (V := Value.int) hF ha rfl (fun t h => x_rV X hl (w_J2_add _ _ _ t h) ht_q15 rfl rfl cpx_J2_add q1179 rfl rfl rfl rfl (cat_room rfl) dX0_redo_39) (fun t16 σ17 hF ha => ?_)
    refine g_pop K dX0_redo_42 rfl ?_
    refine g_iconst K dX0_redo_43 lc_1 ?_
    exact x_zretW X hF (Or.inr rfl) ha dX0_redo_44
  · refine g_iconst K dX0_redo_10 lc_0 ?_
    exact x_zretW X hF (Or.inl rfl) ha dX0_redo_11

theorem cpx_X0_bestOf : cpV yX0_bestOf cX0_bestOf 14 (some .int) 3 := ⟨q1301, qs48, q145, q1302, by decide +kernel⟩
set_option maxHeartbeats 4000000 in
set_option maxRecDepth 100000 in
theorem w_X0_bestOf_F {l : Launch} {D : va_G} {cx ro : Nat → Nat} {A : Nat → Prop} {TL SL : Nat} (G : Nat) (R_X0_bestOf : XS → Nat → Option Nat → Int32 → Int32 → Option (Int32 × XS)) (dR : Nat) (hR_X0_bestOf : ∀ (σ : XS) (th : Nat) (a0 : Option Nat) (a1 : Int32) (a2 : Int32) (r : (Int32 × XS)), R_X0_bestOf σ th a0 a1 a2 = some r → xMet l D cx ro A TL SL yX0_bestOf cX0_bestOf 14 (some .int) (194 + dR - 1) false wx_X0_bestOf [.ref th, va_rf a0, .int a1, .int a2] σ (some (.int r.1)) r.2) (σ0 : XS) (th : Nat) (a0 : Option Nat) (a1 : Int32) (a2 : Int32) (r : (Int32 × XS)) (hF : X_X0_bestOf_F ro G R_X0_bestOf σ0 th a0 a1 a2 = some r) : xMet l D cx ro A TL SL yX0_bestOf cX0_bestOf 14 (some .int) (194 + dR) false wx_X0_bestOf [.ref th, va_rf a0, .int a1, .int a2] σ0 (some (.int r.1)) r.2 := by
  refine x_of (l9 := [(0, some (.ref th)), (1, some (va_rf a0)), (2, some (.int a1)), (3, some (.int a2))]) (by decide) (by cases a0 <;> exact Nat.le_of_ble_eq_true rfl) (by cases a0 <;> rfl) ?_
  intro p e s m args below meth c ls X K hnm hl hlm
  have L392 : ∀ (σ : XS) (x4 : Int32) (x6 : Int32) (ls : Array Slot), X_X0_bestOf_L392 ro G R_X0_bestOf th  σ x4 x6 = some r → agW false wx_X0_bestOf σ0 σ → lq ls 14 [(0, some (.ref th)), (4, some (.int x4)), (6, some (.int x6))] → ZX p l e (194 + dR) TL SL s m args below meth c D cx ro A false wx_X0_bestOf σ0 (some (.int r.1)) r.2 σ (F0 m 392 ls []) := by
    intro  σ x4 x6 ls hF ha hl
    unfold X_X0_bestOf_L392 at hF
    refine g_iload (i := 4) K hl dX0_bestOf_392 rfl ?_
    refine g_iload (i := 6) K hl dX0_bestOf_394 rfl ?_
    refine x_mmax X hl q1311 (ble_of (by omega)) rfl dX0_bestOf_396 ?_
    exact x_iretW X hF ha dX0_bestOf_399
  have B65 : ∀ (k47 : XS → Option Nat → Int32 → Int32 → Int32 → Int32 → Int32 → Option (Int32 × XS)) (hk47 : (∀ (σ : XS) (x1 : Option Nat) (x2 : Int32) (x3 : Int32) (x4 : Int32) (x5 : Int32) (x6 : Int32) (ls : Array Slot), k47 σ x1 x2 x3 x4 x5 x6 = some r → agW false wx_X0_bestOf σ0 σ → lq ls 14 [(0, some (.ref th)), (1, some (va_rf x1)), (2, some (.int x2)), (3, some (.int x3)), (4, some (.int x4)), (5, some (.int x5)), (6, some (.int x6))] → ZX p l e (194 + dR) TL SL s m args below meth c D cx ro A false wx_X0_bestOf σ0 (some (.int r.1)) r.2 σ (F0 m 47 ls []))) (k65 : XS → Option Nat → Int32 → Int32 → Int32 → Int32 → Int32 → Int32 → Option (Int32 × XS)) (hk65 : (∀ (σ : XS) (x1 : Option Nat) (x2 : Int32) (x3 : Int32) (x4 : Int32) (x5 : Int32) (x6 : Int32) (x7 : Int32) (ls : Array Slot), k65 σ x1 x2 x3 x4 x5 x6 x7 = some r → agW false wx_X0_bestOf σ0 σ → lq ls 14 [(0, some (.ref th)), (1, some (va_rf x1)), (2, some (.int x2)), (3, some (.int x3)), (4, some (.int x4)), (5, some (.int x5)), (6, some (.int x6)), (7, some (.int x7))] → ZX p l e (194 + dR) TL SL s m args below meth c D cx ro A false wx_X0_bestOf σ0 (some (.int r.1)) r.2 σ (F0 m 65 ls []))) (σ : XS) (x1 : Option Nat) (x2 : Int32) (x3 : Int32) (x4 : Int32) (x5 : Int32) (x6 : Int32) (x7 : Int32) (ls : Array Slot), X_X0_bestOf_B65 ro G R_X0_bestOf th k47 k65 σ x1 x2 x3 x4 x5 x6 x7 = some r → agW false wx_X0_bestOf σ0 σ → lq ls 14 [(0, some (.ref th)), (1, some (va_rf x1)), (2, some (.int x2)), (3, some (.int x3)), (4, some (.int x4)), (5, some (.int x5)), (6, some (.int x6)), (7, some (.int x7))] → ZX p l e (194 + dR) TL SL s m args below meth c D cx ro A false wx_X0_bestOf σ0 (some (.int r.1)) r.2 σ (F0 m 65 ls []) := by
    intro k47 hk47 k65 hk65 σ x1 x2 x3 x4 x5 x6 x7 ls hF ha hl
    unfold X_X0_bestOf_B65 at hF
    refine g_iload (i := 7) K hl dX0_bestOf_65 rfl ?_
    refine g_iconst K dX0_bestOf_67 lc_5 ?_
    refine g_icmp_ge (tgt := 309) K hF dX0_bestOf_68 (by decide) (fun hF => ?_) (fun hF => ?_)
    · refine g_iinc (i := 6) K hl dX0_bestOf_309 rfl lc_1 rfl rfl (fun ls hl => ?_)
      refine g_goto (tgt := 47) K dX0_bestOf_312 (by decide) ?_
      exact hk47 _ _ _ _ _ _ _ ls hF ha (lq_sub hl rfl)
    · refine g_aload_n (i := 0) K hl dX0_bestOf_71 rfl rfl ?_
      refine xg_X0_12 X hF dX0_bestOf_72 (fun t1 hF => ?_)
      refine xg_X0_87 X hF dX0_bestOf_75 (fun t2 hF => ?_)
      refine g_iload (i := 6) K hl dX0_bestOf_78 rfl ?_
      have hlZ := hl
      obtain ⟨q3, hq9, ht_q3, hZ⟩ := nnX_i hF
      cases hq9
      have hF := hZ
      clear hZ
      have hl := hlZ
      clear hlZ
      refine x_callP (V := va_rf) hF (fun t h => x_rV X hl (w_J2_get _ _ _ t h) ht_q3 rfl rfl cpx_J2_get q1010 rfl (ble_of (by omega)) rfl rfl (cat_room rfl) dX0_bestOf_80) (fun t4 hF => ?_)
      refine x_cast X hF rfl q1011 dX0_bestOf_83 (fun hF => ?_)
      refine g_astoreR (i := 8) K hl dX0_bestOf_86 rfl rfl (fun ls hl => ?_)
      refine x_gets (j := 0) X rfl q1304 dX0_bestOf_88 ?_
      refine g_iload (i := 7) K hl dX0_bestOf_91 rfl ?_
      refine x_aald X hF dX0_bestOf_93 (fun t5 hF => ?_)
      refine x_callP (V := Value.int) hF (fun t h => xr_v_Try_seconds X hl (w_v_Try_seconds _ _  t h) q1305 (ble_of (by omega)) rfl (cat_room rfl) dX0_bestOf_94) (fun t6 hF => ?_)
      refine g_istore (i := 9) K hl dX0_bestOf_97 rfl (lkn_rf rfl) (fun ls hl => ?_)
      refine g_iload (i := 9) K hl dX0_bestOf_99 rfl ?_
      refine g_iload_n (i := 2) K hl dX0_bestOf_101 rfl rfl ?_
      refine g_icmp_gt (tgt := 303) K hF dX0_bestOf_102 (by decide) (fun hF => ?_) (fun hF => ?_)
      · refine g_iinc (i := 7) K hl dX0_bestOf_303 rfl lc_1 rfl rfl (fun ls hl => ?_)
        refine g_goto (tgt := 65) K dX0_bestOf_306 (by decide) ?_
        exact hk65 _ _ _ _ _ _ _ _ ls hF ha (lq_sub hl rfl)
      · refine g_aload_n (i := 0) K hl dX0_bestOf_105 rfl rfl ?_
        refine xg_X0_12 X hF dX0_bestOf_106 (fun t7 hF => ?_)
        refine g_aloadR_n (i := 1) K hl dX0_bestOf_109 rfl rfl ?_
        refine g_aloadR (i := 8) K hl dX0_bestOf_110 rfl ?_
        refine g_iload (i := 7) K hl dX0_bestOf_112 rfl ?_
        have hlZ := hl
        obtain ⟨q8, hq9, ht_q8, hZ⟩ := nnX_i hF
        cases hq9
        have hF := hZ
        clear hZ
        have hl := hlZ
        clear hlZ
        refine x_callP (V := Value.int) hF (fun t h => x_rV X hl (w_X1_can G _ _ _ _ _ t h) ht_q8 rfl rfl cpx_X1_can q1029 rfl (ble_of (by omega)) rfl rfl (cat_room rfl) dX0_bestOf_114) (fun t9 hF => ?_)
        refine g_if_ne (tgt := 123) K hF dX0_bestOf_117 (by decide) (fun hF => ?_) (fun hF => ?_)
        · refine g_aload_n (i := 0) K hl dX0_bestOf_123 rfl rfl ?_
          refine xg_X0_12 X hF dX0_bestOf_124 (fun t10 hF => ?_)
          refine g_aloadR_n (i := 1) K hl dX0_bestOf_127 rfl rfl ?_
          refine g_aloadR (i := 8) K hl dX0_bestOf_128 rfl ?_
          refine g_iload (i := 7) K hl dX0_bestOf_130 rfl ?_
          have hlZ := hl
          obtain ⟨q11, hq9, ht_q11, hZ⟩ := nnX_i hF
          cases hq9
          have hF := hZ
          clear hZ
          have hl := hlZ
          clear hlZ
          refine x_callW (V := Value.int) hF ha rfl (fun t h => x_rV X hl (w_X1_odds _ _ _ _ _ t h) ht_q11 rfl rfl cpx_X1_odds q1099 rfl (ble_of (by omega)) rfl rfl (cat_room rfl) dX0_bestOf_132) (fun t12 σ13 hF ha => ?_)
          refine g_istore (i := 10) K hl dX0_bestOf_135 rfl rfl (fun ls hl => ?_)
          refine g_aload_n (i := 0) K hl dX0_bestOf_137 rfl rfl ?_
          refine xg_X0_12 X hF dX0_bestOf_138 (fun t14 hF => ?_)
          refine g_aloadR_n (i := 1) K hl dX0_bestOf_141 rfl rfl ?_
          refine g_iload (i := 7) K hl dX0_bestOf_142 rfl ?_
          have hlZ := hl
          obtain ⟨q15, hq9, ht_q15, hZ⟩ := nnX_i hF
          cases hq9
          have hF := hZ
          clear hZ
          have hl := hlZ
          clear hlZ
          refine x_callV hF ha rfl (fun t h => x_rV X hl (w_X1_takes _ _ _ _ t h) ht_q15 rfl rfl cpx_X1_takes q1306 rfl (ble_of (by omega)) rfl rfl (cat_room rfl) dX0_bestOf_144) (fun σ16 hF ha => ?_)
          refine g_aloadR (i := 8) K hl dX0_bestOf_147 rfl ?_
          refine g_iconst K dX0_bestOf_149 lc_0 ?_
          refine xp_X0_153 X hF ha rfl dX0_bestOf_150 (fun σ17 hF ha => ?_)
          refine g_aload_n (i := 0) K hl dX0_bestOf_153 rfl rfl ?_
          refine g_aloadR_n (i := 1) K hl dX0_bestOf_154 rfl rfl ?_
          refine g_iload_n (i := 2) K hl dX0_bestOf_155 rfl rfl ?_
          refine g_iload (i := 9) K hl dX0_bestOf_156 rfl ?_
          refine g_isub K dX0_bestOf_158 ?_
          refine g_iload_n (i := 3) K hl dX0_bestOf_159 rfl rfl ?_
          refine g_iconst K dX0_bestOf_160 lc_1 ?_
          refine g_iadd K dX0_bestOf_161 ?_
          have hlZ := hl
          obtain ⟨q18, hq9, ht_q18, hZ⟩ := nnX_i hF
          cases hq9
          have hF := hZ
          clear hZ
          have hl := hlZ
          clear hlZ
          refine x_callW (V := Value.int) hF ha rfl (fun t h => x_rV X hl (hR_X0_bestOf _ _ _ _ _ t h) ht_q18 rfl rfl cpx_X0_bestOf q1299 rfl (ble_of (by omega)) rfl rfl (cat_room rfl) dX0_bestOf_162) (fun t19 σ20 hF ha => ?_)
          refine g_istore (i := 11) K hl dX0_bestOf_165 rfl rfl (fun ls hl => ?_)
          refine g_aload_n (i := 0) K hl dX0_bestOf_167 rfl rfl ?_
          refine xg_X0_12 X hF dX0_bestOf_168 (fun t21 hF => ?_)
          refine g_aload_n (i := 0) K hl dX0_bestOf_171 rfl rfl ?_
          refine xg_X0_34 X hF dX0_bestOf_172 (fun t22 hF => ?_)
          refine g_iload (i := 5) K hl dX0_bestOf_175 rfl ?_
          have hlZ := hl
          obtain ⟨q23, hq9, ht_q23, hZ⟩ := nnX_i hF
          cases hq9
          have hF := hZ
          clear hZ
          have hl := hlZ
          clear hlZ
          refine x_callV hF ha rfl (fun t h => x_rV X hl (w_X1_bringAt G _ _ _ _ t h) ht_q23 rfl rfl cpx_X1_bringAt q1307 rfl (ble_of (by omega)) rfl rfl (cat_room rfl) dX0_bestOf_177) (fun σ24 hF ha => ?_)
          refine g_aload_n (i := 0) K hl dX0_bestOf_180 rfl rfl ?_
          refine xg_X0_12 X hF dX0_bestOf_181 (fun t25 hF => ?_)
          refine g_aloadR_n (i := 1) K hl dX0_bestOf_184 rfl rfl ?_
          refine g_iload (i := 7) K hl dX0_bestOf_185 rfl ?_
          have hlZ := hl
          obtain ⟨q26, hq9, ht_q26, hZ⟩ := nnX_i hF
          cases hq9
          have hF := hZ
          clear hZ
          have hl := hlZ
          clear hlZ
          refine x_callV hF ha rfl (fun t h => x_rV X hl (w_X1_takes _ _ _ _ t h) ht_q26 rfl rfl cpx_X1_takes q1306 rfl (ble_of (by omega)) rfl rfl (cat_room rfl) dX0_bestOf_187) (fun σ27 hF ha => ?_)
          refine x_gets (j := 0) X rfl q1304 dX0_bestOf_190 ?_
          refine g_iload (i := 7) K hl dX0_bestOf_193 rfl ?_
          refine x_aald X hF dX0_bestOf_195 (fun t28 hF => ?_)
          refine g_aload_n (i := 0) K hl dX0_bestOf_196 rfl rfl ?_
          refine xg_X0_12 X hF dX0_bestOf_197 (fun t29 hF => ?_)
          refine g_aloadR_n (i := 1) K hl dX0_bestOf_200 rfl rfl ?_
          refine g_aloadR (i := 8) K hl dX0_bestOf_201 rfl ?_
          refine x_callV hF ha rfl (fun t h => xr_v_Try_missed X hl (w_v_Try_missed G _ _ _ _ _ t h) q1308 (ble_of (by omega)) rfl (cat_room rfl) dX0_bestOf_203) (fun σ30 hF ha => ?_)
          refine g_aload_n (i := 0) K hl dX0_bestOf_206 rfl rfl ?_
          refine g_aloadR_n (i := 1) K hl dX0_bestOf_207 rfl rfl ?_
          refine g_iload_n (i := 2) K hl dX0_bestOf_208 rfl rfl ?_
          refine g_iload (i := 9) K hl dX0_bestOf_209 rfl ?_
          refine g_isub K dX0_bestOf_211 ?_
          refine g_iload_n (i := 3) K hl dX0_bestOf_212 rfl rfl ?_
          refine g_iconst K dX0_bestOf_213 lc_1 ?_
          refine g_iadd K dX0_bestOf_214 ?_
          have hlZ := hl
          obtain ⟨q31, hq9, ht_q31, hZ⟩ := nnX_i hF
          cases hq9
          have hF := hZ
          clear hZ
          have hl := hlZ
          clear hlZ
          refine x_callW (V := Value.int) hF ha rfl (fun t h => x_rV X hl (hR_X0_bestOf _ _ _ _ _ t h) ht_q31 rfl rfl cpx_X0_bestOf q1299 rfl (ble_of (by omega)) rfl rfl (cat_room rfl) dX0_bestOf_215) (fun t32 σ33 hF ha => ?_)
          refine g_istore (i := 12) K hl dX0_bestOf_218 rfl rfl (fun ls hl => ?_)
          refine g_aload_n (i := 0) K hl dX0_bestOf_220 rfl rfl ?_
          refine xg_X0_12 X hF dX0_bestOf_221 (fun t34 hF => ?_)
          refine g_aload_n (i := 0) K hl dX0_bestOf_224 rfl rfl ?_
          refine xg_X0_34 X hF dX0_bestOf_225 (fun t35 hF => ?_)
          refine g_iload (i := 5) K hl dX0_bestOf_228 rfl ?_
          have hlZ := hl
          obtain ⟨q36, hq9, ht_q36, hZ⟩ := nnX_i hF
          cases hq9
          have hF := hZ
          clear hZ
          have hl := hlZ
          clear hlZ
          refine x_callV hF ha rfl (fun t h => x_rV X hl (w_X1_bringAt G _ _ _ _ t h) ht_q36 rfl rfl cpx_X1_bringAt q1307 rfl (ble_of (by omega)) rfl rfl (cat_room rfl) dX0_bestOf_230) (fun σ37 hF ha => ?_)
          refine g_iload (i := 11) K hl dX0_bestOf_233 rfl ?_
          refine g_if_lt (tgt := 243) K hF dX0_bestOf_235 (by decide) (fun hF => ?_) (fun hF => ?_)
          · refine g_iconst K dX0_bestOf_243 lc_m1 ?_
            exact x_iretW X hF ha dX0_bestOf_244
          · refine g_iload (i := 12) K hl dX0_bestOf_238 rfl ?_
            refine g_if_ge (tgt := 245) K hF dX0_bestOf_240 (by decide) (fun hF => ?_) (fun hF => ?_)
            · refine g_iload (i := 10) K hl dX0_bestOf_245 rfl ?_
              refine g_i2l K dX0_bestOf_247 ?_
              refine g_ldc K dX0_bestOf_248 q1309 ?_
              refine g_iload (i := 11) K hl dX0_bestOf_250 rfl ?_
              refine g_iadd K dX0_bestOf_252 ?_
              refine g_i2l K dX0_bestOf_253 ?_
              refine g_lmul K dX0_bestOf_254 ?_
              refine g_bipush K dX0_bestOf_255 lb_100 ?_
              refine g_iload (i := 10) K hl dX0_bestOf_257 rfl ?_
              refine g_isub K dX0_bestOf_259 ?_
              refine g_i2l K dX0_bestOf_260 ?_
              refine g_iload (i := 12) K hl dX0_bestOf_261 rfl ?_
              refine g_i2l K dX0_bestOf_263 ?_
              refine g_lmul K dX0_bestOf_264 ?_
              refine g_ladd K dX0_bestOf_265 ?_
              refine g_ldc2 K dX0_bestOf_266 q1310 ?_
              refine g_ldivT K hF dX0_bestOf_269 (fun t38 hF => ?_)
              refine g_l2i K dX0_bestOf_270 ?_
              refine g_istore (i := 13) K hl dX0_bestOf_271 rfl rfl (fun ls hl => ?_)
              refine g_iload (i := 13) K hl dX0_bestOf_273 rfl ?_
              refine g_iload (i := 4) K hl dX0_bestOf_275 rfl ?_
              refine g_icmp_gt (tgt := 283) K hF dX0_bestOf_277 (by decide) (fun hF => ?_) (fun hF => ?_)
              · refine g_iload (i := 13) K hl dX0_bestOf_283 rfl ?_
                refine g_istore (i := 4) K hl dX0_bestOf_285 rfl rfl (fun ls hl => ?_)
                refine g_iload_n (i := 3) K hl dX0_bestOf_287 rfl rfl ?_
                refine g_if_ne (tgt := 303) K hF dX0_bestOf_288 (by decide) (fun hF => ?_) (fun hF => ?_)
                · refine g_iinc (i := 7) K hl dX0_bestOf_303 rfl lc_1 rfl rfl (fun ls hl => ?_)
                  refine g_goto (tgt := 65) K dX0_bestOf_306 (by decide) ?_
                  exact hk65 _ _ _ _ _ _ _ _ ls hF ha (lq_sub hl rfl)
                · refine g_aload_n (i := 0) K hl dX0_bestOf_291 rfl rfl ?_
                  refine g_bipush K dX0_bestOf_292 lb_10 ?_
                  refine g_iload (i := 6) K hl dX0_bestOf_294 rfl ?_
                  refine g_imul K dX0_bestOf_296 ?_
                  refine g_iload (i := 7) K hl dX0_bestOf_297 rfl ?_
                  refine g_iadd K dX0_bestOf_299 ?_
                  refine xp_X0_246 X hF ha rfl dX0_bestOf_300 (fun σ39 hF ha => ?_)
                  refine g_iinc (i := 7) K hl dX0_bestOf_303 rfl lc_1 rfl rfl (fun ls hl => ?_)
                  refine g_goto (tgt := 65) K dX0_bestOf_306 (by decide) ?_
                  exact hk65 _ _ _ _ _ _ _ _ ls hF ha (lq_sub hl rfl)
              · refine g_goto (tgt := 303) K dX0_bestOf_280 (by decide) ?_
                refine g_iinc (i := 7) K hl dX0_bestOf_303 rfl lc_1 rfl rfl (fun ls hl => ?_)
                refine g_goto (tgt := 65) K dX0_bestOf_306 (by decide) ?_
                exact hk65 _ _ _ _ _ _ _ _ ls hF ha (lq_sub hl rfl)
            · refine g_iconst K dX0_bestOf_243 lc_m1 ?_
              exact x_iretW X hF ha dX0_bestOf_244
        · refine g_goto (tgt := 303) K dX0_bestOf_120 (by decide) ?_
          refine g_iinc (i := 7) K hl dX0_bestOf_303 rfl lc_1 rfl rfl (fun ls hl => ?_)
          refine g_goto (tgt := 65) K dX0_bestOf_306 (by decide) ?_
          exact hk65 _ _ _ _ _ _ _ _ ls hF ha (lq_sub hl rfl)
  have L65 : ∀ (k47 : XS → Option Nat → Int32 → Int32 → Int32 → Int32 → Int32 → Option (Int32 × XS)) (hk47 : (∀ (σ : XS) (x1 : Option Nat) (x2 : Int32) (x3 : Int32) (x4 : Int32) (x5 : Int32) (x6 : Int32) (ls : Array Slot), k47 σ x1 x2 x3 x4 x5 x6 = some r → agW false wx_X0_bestOf σ0 σ → lq ls 14 [(0, some (.ref th)), (1, some (va_rf x1)), (2, some (.int x2)), (3, some (.int x3)), (4, some (.int x4)), (5, some (.int x5)), (6, some (.int x6))] → ZX p l e (194 + dR) TL SL s m args below meth c D cx ro A false wx_X0_bestOf σ0 (some (.int r.1)) r.2 σ (F0 m 47 ls []))) (n : Nat) (σ : XS) (x1 : Option Nat) (x2 : Int32) (x3 : Int32) (x4 : Int32) (x5 : Int32) (x6 : Int32) (x7 : Int32) (ls : Array Slot), X_X0_bestOf_L65 ro G R_X0_bestOf th k47 n σ x1 x2 x3 x4 x5 x6 x7 = some r → agW false wx_X0_bestOf σ0 σ → lq ls 14 [(0, some (.ref th)), (1, some (va_rf x1)), (2, some (.int x2)), (3, some (.int x3)), (4, some (.int x4)), (5, some (.int x5)), (6, some (.int x6)), (7, some (.int x7))] → ZX p l e (194 + dR) TL SL s m args below meth c D cx ro A false wx_X0_bestOf σ0 (some (.int r.1)) r.2 σ (F0 m 65 ls []) := by
    intro k47 hk47 n
    induction n with
    | zero => intro σ x1 x2 x3 x4 x5 x6 x7 ls hF; exact absurd hF (fun h => by cases h)
    | succ n ih => intro σ x1 x2 x3 x4 x5 x6 x7 ls hF ha hl; exact B65 k47 hk47 _ ih _ _ _ _ _ _ _ _ ls hF ha hl
  have B47 : ∀ (k47 : XS → Option Nat → Int32 → Int32 → Int32 → Int32 → Int32 → Option (Int32 × XS)) (hk47 : (∀ (σ : XS) (x1 : Option Nat) (x2 : Int32) (x3 : Int32) (x4 : Int32) (x5 : Int32) (x6 : Int32) (ls : Array Slot), k47 σ x1 x2 x3 x4 x5 x6 = some r → agW false wx_X0_bestOf σ0 σ → lq ls 14 [(0, some (.ref th)), (1, some (va_rf x1)), (2, some (.int x2)), (3, some (.int x3)), (4, some (.int x4)), (5, some (.int x5)), (6, some (.int x6))] → ZX p l e (194 + dR) TL SL s m args below meth c D cx ro A false wx_X0_bestOf σ0 (some (.int r.1)) r.2 σ (F0 m 47 ls []))) (σ : XS) (x1 : Option Nat) (x2 : Int32) (x3 : Int32) (x4 : Int32) (x5 : Int32) (x6 : Int32) (ls : Array Slot), X_X0_bestOf_B47 ro G R_X0_bestOf th k47 σ x1 x2 x3 x4 x5 x6 = some r → agW false wx_X0_bestOf σ0 σ → lq ls 14 [(0, some (.ref th)), (1, some (va_rf x1)), (2, some (.int x2)), (3, some (.int x3)), (4, some (.int x4)), (5, some (.int x5)), (6, some (.int x6))] → ZX p l e (194 + dR) TL SL s m args below meth c D cx ro A false wx_X0_bestOf σ0 (some (.int r.1)) r.2 σ (F0 m 47 ls []) := by
    intro k47 hk47 σ x1 x2 x3 x4 x5 x6 ls hF ha hl
    unfold X_X0_bestOf_B47 at hF
    refine g_iload (i := 6) K hl dX0_bestOf_47 rfl ?_
    refine g_aload_n (i := 0) K hl dX0_bestOf_49 rfl rfl ?_
    refine xg_X0_12 X hF dX0_bestOf_50 (fun t1 hF => ?_)
    refine xg_X0_87 X hF dX0_bestOf_53 (fun t2 hF => ?_)
    have hlZ := hl
    obtain ⟨q3, hq9, ht_q3, hZ⟩ := nnX_i hF
    cases hq9
    have hF := hZ
    clear hZ
    have hl := hlZ
    clear hlZ
    refine x_callP (V := Value.int) hF (fun t h => x_rV X hl (w_J2_size _ _  t h) ht_q3 rfl rfl cpx_J2_size q994 rfl (ble_of (by omega)) rfl rfl (cat_room rfl) dX0_bestOf_56) (fun t4 hF => ?_)
    refine g_icmp_ge (tgt := 315) K hF dX0_bestOf_59 (by decide) (fun hF => ?_) (fun hF => ?_)
    · refine g_iload_n (i := 2) K hl dX0_bestOf_315 rfl rfl ?_
      refine g_iconst K dX0_bestOf_316 lc_2 ?_
      refine g_icmp_lt (tgt := 331) K hF dX0_bestOf_317 (by decide) (fun hF => ?_) (fun hF => ?_)
      · refine g_iload (i := 4) K hl dX0_bestOf_331 rfl ?_
        exact x_iretW X hF ha dX0_bestOf_333
      · refine g_aloadR_n (i := 1) K hl dX0_bestOf_320 rfl rfl ?_
        refine xg_X0_164 X hF dX0_bestOf_321 (fun t5 hF => ?_)
        refine g_aloadR_n (i := 1) K hl dX0_bestOf_324 rfl rfl ?_
        refine xg_X0_249 X hF dX0_bestOf_325 (fun t6 hF => ?_)
        refine g_icmp_ne (tgt := 334) K hF dX0_bestOf_328 (by decide) (fun hF => ?_) (fun hF => ?_)
        · refine g_aload_n (i := 0) K hl dX0_bestOf_334 rfl rfl ?_
          refine xg_X0_12 X hF dX0_bestOf_335 (fun t7 hF => ?_)
          refine g_aloadR_n (i := 1) K hl dX0_bestOf_338 rfl rfl ?_
          have hlZ := hl
          obtain ⟨q8, hq9, ht_q8, hZ⟩ := nnX_i hF
          cases hq9
          have hF := hZ
          clear hZ
          have hl := hlZ
          clear hlZ
          refine x_callV hF ha rfl (fun t h => x_rV X hl (w_X1_breathes _ _ _ t h) ht_q8 rfl rfl cpx_X1_breathes q1248 rfl (ble_of (by omega)) rfl rfl (cat_room rfl) dX0_bestOf_339) (fun σ9 hF ha => ?_)
          refine g_aload_n (i := 0) K hl dX0_bestOf_342 rfl rfl ?_
          refine g_aloadR_n (i := 1) K hl dX0_bestOf_343 rfl rfl ?_
          refine g_iload_n (i := 2) K hl dX0_bestOf_344 rfl rfl ?_
          refine g_iconst K dX0_bestOf_345 lc_2 ?_
          refine g_isub K dX0_bestOf_346 ?_
          refine g_iload_n (i := 3) K hl dX0_bestOf_347 rfl rfl ?_
          refine g_iconst K dX0_bestOf_348 lc_1 ?_
          refine g_iadd K dX0_bestOf_349 ?_
          have hlZ := hl
          obtain ⟨q10, hq9, ht_q10, hZ⟩ := nnX_i hF
          cases hq9
          have hF := hZ
          clear hZ
          have hl := hlZ
          clear hlZ
          refine x_callW (V := Value.int) hF ha rfl (fun t h => x_rV X hl (hR_X0_bestOf _ _ _ _ _ t h) ht_q10 rfl rfl cpx_X0_bestOf q1299 rfl (ble_of (by omega)) rfl rfl (cat_room rfl) dX0_bestOf_350) (fun t11 σ12 hF ha => ?_)
          refine g_istore (i := 6) K hl dX0_bestOf_353 rfl rfl (fun ls hl => ?_)
          refine g_aload_n (i := 0) K hl dX0_bestOf_355 rfl rfl ?_
          refine xg_X0_12 X hF dX0_bestOf_356 (fun t13 hF => ?_)
          refine g_aload_n (i := 0) K hl dX0_bestOf_359 rfl rfl ?_
          refine xg_X0_34 X hF dX0_bestOf_360 (fun t14 hF => ?_)
          refine g_iload (i := 5) K hl dX0_bestOf_363 rfl ?_
          have hlZ := hl
          obtain ⟨q15, hq9, ht_q15, hZ⟩ := nnX_i hF
          cases hq9
          have hF := hZ
          clear hZ
          have hl := hlZ
          clear hlZ
          refine x_callV hF ha rfl (fun t h => x_rV X hl (w_X1_bringAt G _ _ _ _ t h) ht_q15 rfl rfl cpx_X1_bringAt q1307 rfl (ble_of (by omega)) rfl rfl (cat_room rfl) dX0_bestOf_365) (fun σ16 hF ha => ?_)
          refine g_iload (i := 6) K hl dX0_bestOf_368 rfl ?_
          refine g_if_ge (tgt := 375) K hF dX0_bestOf_370 (by decide) (fun hF => ?_) (fun hF => ?_)
          · refine g_iload (i := 6) K hl dX0_bestOf_375 rfl ?_
            refine g_iload (i := 4) K hl dX0_bestOf_377 rfl ?_
            refine g_icmp_le (tgt := 392) K hF dX0_bestOf_379 (by decide) (fun hF => ?_) (fun hF => ?_)
            · exact L392  _ _ _ ls hF ha (lq_sub hl rfl)
            · refine g_iload_n (i := 3) K hl dX0_bestOf_382 rfl rfl ?_
              refine g_if_ne (tgt := 392) K hF dX0_bestOf_383 (by decide) (fun hF => ?_) (fun hF => ?_)
              · exact L392  _ _ _ ls hF ha (lq_sub hl rfl)
              · refine g_aload_n (i := 0) K hl dX0_bestOf_386 rfl rfl ?_
                refine g_bipush K dX0_bestOf_387 lb_m2 ?_
                refine xp_X0_246 X hF ha rfl dX0_bestOf_389 (fun σ17 hF ha => ?_)
                exact L392  _ _ _ ls hF ha (lq_sub hl rfl)
          · refine g_iconst K dX0_bestOf_373 lc_m1 ?_
            exact x_iretW X hF ha dX0_bestOf_374
        · refine g_iload (i := 4) K hl dX0_bestOf_331 rfl ?_
          exact x_iretW X hF ha dX0_bestOf_333
    · refine g_iconst K dX0_bestOf_62 lc_0 ?_
      refine g_istore (i := 7) K hl dX0_bestOf_63 rfl rfl (fun ls hl => ?_)
      exact L65 k47 hk47 G _ _ _ _ _ _ _ _ ls hF ha (lq_sub hl rfl)
  have L47 : ∀ (n : Nat) (σ : XS) (x1 : Option Nat) (x2 : Int32) (x3 : Int32) (x4 : Int32) (x5 : Int32) (x6 : Int32) (ls : Array Slot), X_X0_bestOf_L47 ro G R_X0_bestOf th  n σ x1 x2 x3 x4 x5 x6 = some r → agW false wx_X0_bestOf σ0 σ → lq ls 14 [(0, some (.ref th)), (1, some (va_rf x1)), (2, some (.int x2)), (3, some (.int x3)), (4, some (.int x4)), (5, some (.int x5)), (6, some (.int x6))] → ZX p l e (194 + dR) TL SL s m args below meth c D cx ro A false wx_X0_bestOf σ0 (some (.int r.1)) r.2 σ (F0 m 47 ls []) := by
    intro  n
    induction n with
    | zero => intro σ x1 x2 x3 x4 x5 x6 ls hF; exact absurd hF (fun h => by cases h)
    | succ n ih => intro σ x1 x2 x3 x4 x5 x6 ls hF ha hl; exact B47  _ ih _ _ _ _ _ _ _ ls hF ha hl
  have ha : agW false wx_X0_bestOf σ0 σ0 := agW.rf
  unfold X_X0_bestOf_F at hF
  refine g_aload_n (i := 0) K hl dX0_bestOf_0 rfl rfl ?_
  refine g_dup K dX0_bestOf_1 rfl ?_
  refine xg_X0_214 X hF dX0_bestOf_2 (fun t1 hF => ?_)
  refine g_iconst K dX0_bestOf_5 lc_1 ?_
  refine g_iadd K dX0_bestOf_6 ?_
  refine xp_X0_214 X hF ha rfl dX0_bestOf_7 (fun σ2 hF ha => ?_)
  refine g_aload_n (i := 0) K hl dX0_bestOf_10 rfl rfl ?_
  refine xg_X0_214 X hF dX0_bestOf_11 (fun t3 hF => ?_)
  refine g_sipush K dX0_bestOf_14 ls_20000 ?_
  refine g_icmp_le (tgt := 22) K hF dX0_bestOf_17 (by decide) (fun hF => ?_) (fun hF => ?_)
  · refine g_iconst K dX0_bestOf_22 lc_0 ?_
    refine g_istore (i := 4) K hl dX0_bestOf_23 rfl rfl (fun ls hl => ?_)
    refine g_bipush K dX0_bestOf_25 lb_123 ?_
    refine g_iload_n (i := 3) K hl dX0_bestOf_27 rfl rfl ?_
    refine g_imul K dX0_bestOf_28 ?_
    refine g_istore (i := 5) K hl dX0_bestOf_29 rfl rfl (fun ls hl => ?_)
    refine g_aload_n (i := 0) K hl dX0_bestOf_31 rfl rfl ?_
    refine xg_X0_12 X hF dX0_bestOf_32 (fun t4 hF => ?_)
    refine g_aload_n (i := 0) K hl dX0_bestOf_35 rfl rfl ?_
    refine xg_X0_34 X hF dX0_bestOf_36 (fun t5 hF => ?_)
    refine g_iload (i := 5) K hl dX0_bestOf_39 rfl ?_
    have hlZ := hl
    obtain ⟨q6, hq9, ht_q6, hZ⟩ := nnX_i hF
    cases hq9
    have hF := hZ
    clear hZ
    have hl := hlZ
    clear hlZ
    refine x_callV hF ha rfl (fun t h => x_rV X hl (w_X1_keepAt G _ _ _ _ t h) ht_q6 rfl rfl cpx_X1_keepAt q1303 rfl (ble_of (by omega)) rfl rfl (cat_room rfl) dX0_bestOf_41) (fun σ7 hF ha => ?_)
    refine g_iconst K dX0_bestOf_44 lc_0 ?_
    refine g_istore (i := 6) K hl dX0_bestOf_45 rfl rfl (fun ls hl => ?_)
    exact L47  G _ _ _ _ _ _ _ ls hF ha (lq_sub hl rfl)
  · refine g_iconst K dX0_bestOf_20 lc_m1 ?_
    exact x_iretW X hF ha dX0_bestOf_21
theorem w_X0_bestOf {l : Launch} {D : va_G} {cx ro : Nat → Nat} {A : Nat → Prop} {TL SL : Nat} (G : Nat) (D9 : Nat) : ∀ (σ : XS) (th : Nat) (a0 : Option Nat) (a1 : Int32) (a2 : Int32) (r : (Int32 × XS)), X_X0_bestOf ro G D9 σ th a0 a1 a2 = some r → xMet l D cx ro A TL SL yX0_bestOf cX0_bestOf 14 (some .int) (194 + D9 - 1) false wx_X0_bestOf [.ref th, va_rf a0, .int a1, .int a2] σ (some (.int r.1)) r.2 := by
  induction D9 with
  | zero => intro σ th a0 a1 a2 r hF; exact absurd hF (fun h => by cases h)
  | succ D9 ih =>
    intro σ th a0 a1 a2 r hF
    exact w_X0_bestOf_F G (X_X0_bestOf ro G D9) D9 ih σ th a0 a1 a2 r hF
