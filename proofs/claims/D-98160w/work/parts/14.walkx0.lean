/-! walks of the component: printed by genx.py -/
theorem cpx_X0_isIn : cpS yX0_isIn cX0_isIn 3 (some .boolean) 3 := ⟨q1008, q145, q1009, by decide +kernel⟩
set_option maxHeartbeats 4000000 in
set_option maxRecDepth 100000 in
theorem w_X0_isIn {l : Launch} {D : va_G} {cx ro : Nat → Nat} {A : Nat → Prop} {TL SL : Nat}  (σ0 : XS) (a0 : Int32) (a1 : Int32) (a2 : Int32) (r : Int32) (hF : X_X0_isIn σ0 a0 a1 a2 = some r) : xMet l D cx ro A TL SL yX0_isIn cX0_isIn 3 (some .boolean) 0 false wx_X0_isIn [.int a0, .int a1, .int a2] σ0 (some (.int r)) σ0 := by
  refine x_of (l9 := [(0, some (.int a0)), (1, some (.int a1)), (2, some (.int a2))]) (by decide) (by exact Nat.le_of_ble_eq_true rfl) (by rfl) ?_
  intro p e s m args below meth c ls X K hnm hl hlm
  unfold X_X0_isIn at hF
  refine g_iload_n (i := 0) K hl dX0_isIn_0 rfl rfl ?_
  refine g_iload_n (i := 1) K hl dX0_isIn_1 rfl rfl ?_
  refine g_icmp_lt (tgt := 14) K hF dX0_isIn_2 (by decide) (fun hF => ?_) (fun hF => ?_)
  · refine g_iconst K dX0_isIn_14 lc_0 ?_
    exact x_zretP X hF (Or.inl rfl) agW.rf dX0_isIn_15
  · refine g_iload_n (i := 0) K hl dX0_isIn_5 rfl rfl ?_
    refine g_iload_n (i := 2) K hl dX0_isIn_6 rfl rfl ?_
    refine g_icmp_gt (tgt := 14) K hF dX0_isIn_7 (by decide) (fun hF => ?_) (fun hF => ?_)
    · refine g_iconst K dX0_isIn_14 lc_0 ?_
      exact x_zretP X hF (Or.inl rfl) agW.rf dX0_isIn_15
    · refine g_iconst K dX0_isIn_10 lc_1 ?_
      refine g_goto (tgt := 15) K dX0_isIn_11 (by decide) ?_
      exact x_zretP X hF (Or.inr rfl) agW.rf dX0_isIn_15

theorem cpx_J0_init : cpI yJ0_init cJ0_init 1 0 := ⟨rfl, q201, q147, q202, by decide +kernel⟩
set_option maxHeartbeats 4000000 in
set_option maxRecDepth 100000 in
theorem w_J0_init {l : Launch} {D : va_G} {cx ro : Nat → Nat} {A : Nat → Prop} {TL SL : Nat}  (σ0 : XS) (th : Nat)  (r : XS) (hF : X_J0_init σ0 th = some r) : xMet l D cx ro A TL SL yJ0_init cJ0_init 1 none 1 false wx_J0_init [.ref th] σ0 none r := by
  refine x_of (l9 := [(0, some (.ref th))]) (by decide) (by exact Nat.le_of_ble_eq_true rfl) (by rfl) ?_
  intro p e s m args below meth c ls X K hnm hl hlm
  have ha : agW false wx_J0_init σ0 σ0 := agW.rf
  unfold X_J0_init at hF
  refine g_aload_n (i := 0) K hl dJ0_init_0 rfl rfl ?_
  refine x_objI X hl q203 rfl dJ0_init_1 ?_
  exact x_vretV X hF ha dJ0_init_4

theorem cpx_J1_init : cpI yJ1_init cJ1_init 1 0 := ⟨rfl, q198, q148, q199, by decide +kernel⟩
set_option maxHeartbeats 4000000 in
set_option maxRecDepth 100000 in
theorem w_J1_init {l : Launch} {D : va_G} {cx ro : Nat → Nat} {A : Nat → Prop} {TL SL : Nat}  (σ0 : XS) (th : Nat)  (r : XS) (hF : X_J1_init σ0 th = some r) : xMet l D cx ro A TL SL yJ1_init cJ1_init 1 none 2 false wx_J1_init [.ref th] σ0 none r := by
  refine x_of (l9 := [(0, some (.ref th))]) (by decide) (by exact Nat.le_of_ble_eq_true rfl) (by rfl) ?_
  intro p e s m args below meth c ls X K hnm hl hlm
  have ha : agW false wx_J1_init σ0 σ0 := agW.rf
  unfold X_J1_init at hF
  refine g_aload_n (i := 0) K hl dJ1_init_0 rfl rfl ?_
  have hlZ := hl
  obtain ⟨q1, hq9, hZ⟩ := nnO_i hF
  cases hq9
  have hF := hZ
  clear hZ
  have hl := hlZ
  clear hlZ
  refine x_callV hF ha rfl (fun t h => x_rI X hl (w_J0_init _ _  t h) cpx_J0_init q200 rfl rfl rfl rfl (cat_room rfl) dJ1_init_1) (fun σ2 hF ha => ?_)
  refine g_aload_n (i := 0) K hl dJ1_init_4 rfl rfl ?_
  refine g_iconst K dJ1_init_5 lc_0 ?_
  refine xp_J1_7 X hF ha rfl dJ1_init_6 (fun σ3 hF ha => ?_)
  exact x_vretV X hF ha dJ1_init_9

theorem cpx_J2_init : cpI yJ2_init cJ2_init 1 0 := ⟨rfl, q195, q149, q196, by decide +kernel⟩
set_option maxHeartbeats 4000000 in
set_option maxRecDepth 100000 in
theorem w_J2_init {l : Launch} {D : va_G} {cx ro : Nat → Nat} {A : Nat → Prop} {TL SL : Nat}  (σ0 : XS) (th : Nat)  (r : XS) (hF : X_J2_init ro σ0 th = some r) : xMet l D cx ro A TL SL yJ2_init cJ2_init 1 none 3 false wx_J2_init [.ref th] σ0 none r := by
  refine x_of (l9 := [(0, some (.ref th))]) (by decide) (by exact Nat.le_of_ble_eq_true rfl) (by rfl) ?_
  intro p e s m args below meth c ls X K hnm hl hlm
  have ha : agW false wx_J2_init σ0 σ0 := agW.rf
  unfold X_J2_init at hF
  refine g_aload_n (i := 0) K hl dJ2_init_0 rfl rfl ?_
  have hlZ := hl
  obtain ⟨q1, hq9, hZ⟩ := nnO_i hF
  cases hq9
  have hF := hZ
  clear hZ
  have hl := hlZ
  clear hlZ
  refine x_callV hF ha rfl (fun t h => x_rI X hl (w_J1_init _ _  t h) cpx_J1_init q197 rfl rfl rfl rfl (cat_room rfl) dJ2_init_1) (fun σ2 hF ha => ?_)
  refine g_aload_n (i := 0) K hl dJ2_init_4 rfl rfl ?_
  refine x_gets (j := 4) X rfl q204 dJ2_init_5 ?_
  refine xp_J2_9 X hF ha rfl dJ2_init_8 (fun σ3 hF ha => ?_)
  exact x_vretV X hF ha dJ2_init_11

theorem cpx_J2_clear : cpV yJ2_clear cJ2_clear 4 none 0 := ⟨q310, q311, q149, q312, by decide +kernel⟩
set_option maxHeartbeats 4000000 in
set_option maxRecDepth 100000 in
theorem w_J2_clear {l : Launch} {D : va_G} {cx ro : Nat → Nat} {A : Nat → Prop} {TL SL : Nat} (G : Nat) (σ0 : XS) (th : Nat)  (r : XS) (hF : X_J2_clear G σ0 th = some r) : xMet l D cx ro A TL SL yJ2_clear cJ2_clear 4 none 0 false wx_J2_clear [.ref th] σ0 none r := by
  refine x_of (l9 := [(0, some (.ref th))]) (by decide) (by exact Nat.le_of_ble_eq_true rfl) (by rfl) ?_
  intro p e s m args below meth c ls X K hnm hl hlm
  have B27 : ∀ (k27 : XS → Option Nat → Int32 → Int32 → Option XS) (hk27 : (∀ (σ : XS) (x1 : Option Nat) (x2 : Int32) (x3 : Int32) (ls : Array Slot), k27 σ x1 x2 x3 = some r → agW false wx_J2_clear σ0 σ → lq ls 4 [(0, some (.ref th)), (1, some (va_rf x1)), (2, some (.int x2)), (3, some (.int x3))] → ZX p l e 0 TL SL s m args below meth c D cx ro A false wx_J2_clear σ0 none r σ (F0 m 27 ls []))) (σ : XS) (x1 : Option Nat) (x2 : Int32) (x3 : Int32) (ls : Array Slot), X_J2_clear_B27 G th k27 σ x1 x2 x3 = some r → agW false wx_J2_clear σ0 σ → lq ls 4 [(0, some (.ref th)), (1, some (va_rf x1)), (2, some (.int x2)), (3, some (.int x3))] → ZX p l e 0 TL SL s m args below meth c D cx ro A false wx_J2_clear σ0 none r σ (F0 m 27 ls []) := by
    intro k27 hk27 σ x1 x2 x3 ls hF ha hl
    unfold X_J2_clear_B27 at hF
    refine g_iload_n (i := 3) K hl dJ2_clear_27 rfl rfl ?_
    refine g_iload_n (i := 2) K hl dJ2_clear_28 rfl rfl ?_
    refine g_icmp_ge (tgt := 42) K hF dJ2_clear_29 (by decide) (fun hF => ?_) (fun hF => ?_)
    · exact x_vretV X hF ha dJ2_clear_42
    · refine g_aloadR_n (i := 1) K hl dJ2_clear_32 rfl rfl ?_
      refine g_iload_n (i := 3) K hl dJ2_clear_33 rfl rfl ?_
      refine g_aconst K dJ2_clear_34 ?_
      refine x_aast X hF ha rfl dJ2_clear_35 (fun σ1 hF ha => ?_)
      refine g_iinc (i := 3) K hl dJ2_clear_36 rfl lc_1 rfl rfl (fun ls hl => ?_)
      refine g_goto (tgt := 27) K dJ2_clear_39 (by decide) ?_
      exact hk27 _ _ _ _ ls hF ha (lq_sub hl rfl)
  have L27 : ∀ (n : Nat) (σ : XS) (x1 : Option Nat) (x2 : Int32) (x3 : Int32) (ls : Array Slot), X_J2_clear_L27 G th  n σ x1 x2 x3 = some r → agW false wx_J2_clear σ0 σ → lq ls 4 [(0, some (.ref th)), (1, some (va_rf x1)), (2, some (.int x2)), (3, some (.int x3))] → ZX p l e 0 TL SL s m args below meth c D cx ro A false wx_J2_clear σ0 none r σ (F0 m 27 ls []) := by
    intro  n
    induction n with
    | zero => intro σ x1 x2 x3 ls hF; exact absurd hF (fun h => by cases h)
    | succ n ih => intro σ x1 x2 x3 ls hF ha hl; exact B27  _ ih _ _ _ _ ls hF ha hl
  have ha : agW false wx_J2_clear σ0 σ0 := agW.rf
  unfold X_J2_clear at hF
  refine g_aload_n (i := 0) K hl dJ2_clear_0 rfl rfl ?_
  refine g_dup K dJ2_clear_1 rfl ?_
  refine xg_J2_63 X hF dJ2_clear_2 (fun t1 hF => ?_)
  refine g_iconst K dJ2_clear_5 lc_1 ?_
  refine g_iadd K dJ2_clear_6 ?_
  refine xp_J2_63 X hF ha rfl dJ2_clear_7 (fun σ2 hF ha => ?_)
  refine g_aload_n (i := 0) K hl dJ2_clear_10 rfl rfl ?_
  refine xg_J2_9 X hF dJ2_clear_11 (fun t3 hF => ?_)
  refine g_astoreR_n (i := 1) K hl dJ2_clear_14 rfl rfl rfl (fun ls hl => ?_)
  refine g_aload_n (i := 0) K hl dJ2_clear_15 rfl rfl ?_
  refine xg_J2_48 X hF dJ2_clear_16 (fun t4 hF => ?_)
  refine g_istore_n (i := 2) K hl dJ2_clear_19 rfl rfl (lkn_rf rfl) (fun ls hl => ?_)
  refine g_aload_n (i := 0) K hl dJ2_clear_20 rfl rfl ?_
  refine g_iconst K dJ2_clear_21 lc_0 ?_
  refine g_dup_x1 K dJ2_clear_22 rfl rfl ?_
  refine xp_J2_48 X hF ha rfl dJ2_clear_23 (fun σ5 hF ha => ?_)
  refine g_istore_n (i := 3) K hl dJ2_clear_26 rfl rfl rfl (fun ls hl => ?_)
  exact L27  G _ _ _ _ ls hF ha (lq_sub hl rfl)

theorem cpx_X0_begin : cpV yX0_begin cX0_begin 2 none 0 := ⟨q307, qs0, q145, q308, by decide +kernel⟩
set_option maxHeartbeats 4000000 in
set_option maxRecDepth 100000 in
theorem w_X0_begin {l : Launch} {D : va_G} {cx ro : Nat → Nat} {A : Nat → Prop} {TL SL : Nat} (G : Nat) (σ0 : XS) (th : Nat)  (r : XS) (hF : X_X0_begin G σ0 th = some r) : xMet l D cx ro A TL SL yX0_begin cX0_begin 2 none 1 false wx_X0_begin [.ref th] σ0 none r := by
  refine x_of (l9 := [(0, some (.ref th))]) (by decide) (by exact Nat.le_of_ble_eq_true rfl) (by rfl) ?_
  intro p e s m args below meth c ls X K hnm hl hlm
  have B28 : ∀ (k28 : XS → Int32 → Option XS) (hk28 : (∀ (σ : XS) (x1 : Int32) (ls : Array Slot), k28 σ x1 = some r → agW false wx_X0_begin σ0 σ → lq ls 2 [(0, some (.ref th)), (1, some (.int x1))] → ZX p l e 1 TL SL s m args below meth c D cx ro A false wx_X0_begin σ0 none r σ (F0 m 28 ls []))) (σ : XS) (x1 : Int32) (ls : Array Slot), X_X0_begin_B28 G th k28 σ x1 = some r → agW false wx_X0_begin σ0 σ → lq ls 2 [(0, some (.ref th)), (1, some (.int x1))] → ZX p l e 1 TL SL s m args below meth c D cx ro A false wx_X0_begin σ0 none r σ (F0 m 28 ls []) := by
    intro k28 hk28 σ x1 ls hF ha hl
    unfold X_X0_begin_B28 at hF
    refine g_iload_n (i := 1) K hl dX0_begin_28 rfl rfl ?_
    refine g_iconst K dX0_begin_29 lc_3 ?_
    refine g_icmp_ge (tgt := 49) K hF dX0_begin_30 (by decide) (fun hF => ?_) (fun hF => ?_)
    · exact x_vretV X hF ha dX0_begin_49
    · refine g_aload_n (i := 0) K hl dX0_begin_33 rfl rfl ?_
      refine xg_X0_52 X hF dX0_begin_34 (fun t1 hF => ?_)
      refine g_iload_n (i := 1) K hl dX0_begin_37 rfl rfl ?_
      refine x_aald X hF dX0_begin_38 (fun t2 hF => ?_)
      refine g_aconst K dX0_begin_39 ?_
      refine xp_X0_65 X hF ha rfl dX0_begin_40 (fun σ3 hF ha => ?_)
      refine g_iinc (i := 1) K hl dX0_begin_43 rfl lc_1 rfl rfl (fun ls hl => ?_)
      refine g_goto (tgt := 28) K dX0_begin_46 (by decide) ?_
      exact hk28 _ _ ls hF ha (lq_sub hl rfl)
  have L28 : ∀ (n : Nat) (σ : XS) (x1 : Int32) (ls : Array Slot), X_X0_begin_L28 G th  n σ x1 = some r → agW false wx_X0_begin σ0 σ → lq ls 2 [(0, some (.ref th)), (1, some (.int x1))] → ZX p l e 1 TL SL s m args below meth c D cx ro A false wx_X0_begin σ0 none r σ (F0 m 28 ls []) := by
    intro  n
    induction n with
    | zero => intro σ x1 ls hF; exact absurd hF (fun h => by cases h)
    | succ n ih => intro σ x1 ls hF ha hl; exact B28  _ ih _ _ ls hF ha hl
  have ha : agW false wx_X0_begin σ0 σ0 := agW.rf
  unfold X_X0_begin at hF
  refine g_aload_n (i := 0) K hl dX0_begin_0 rfl rfl ?_
  refine xg_X0_27 X hF dX0_begin_1 (fun t1 hF => ?_)
  have hlZ := hl
  obtain ⟨q2, hq9, ht_q2, hZ⟩ := nnX_i hF
  cases hq9
  have hF := hZ
  clear hZ
  have hl := hlZ
  clear hlZ
  refine x_callV hF ha rfl (fun t h => x_rV X hl (w_J2_clear G _ _  t h) ht_q2 rfl rfl cpx_J2_clear q309 rfl rfl rfl rfl (cat_room rfl) dX0_begin_4) (fun σ3 hF ha => ?_)
  refine g_aload_n (i := 0) K hl dX0_begin_7 rfl rfl ?_
  refine xg_X0_31 X hF dX0_begin_8 (fun t4 hF => ?_)
  have hlZ := hl
  obtain ⟨q5, hq9, ht_q5, hZ⟩ := nnX_i hF
  cases hq9
  have hF := hZ
  clear hZ
  have hl := hlZ
  clear hlZ
  refine x_callV hF ha rfl (fun t h => x_rV X hl (w_J2_clear G _ _  t h) ht_q5 rfl rfl cpx_J2_clear q309 rfl rfl rfl rfl (cat_room rfl) dX0_begin_11) (fun σ6 hF ha => ?_)
  refine g_aload_n (i := 0) K hl dX0_begin_14 rfl rfl ?_
  refine xg_X0_44 X hF dX0_begin_15 (fun t7 hF => ?_)
  have hlZ := hl
  obtain ⟨q8, hq9, ht_q8, hZ⟩ := nnX_i hF
  cases hq9
  have hF := hZ
  clear hZ
  have hl := hlZ
  clear hlZ
  refine x_callV hF ha rfl (fun t h => x_rV X hl (w_J2_clear G _ _  t h) ht_q8 rfl rfl cpx_J2_clear q309 rfl rfl rfl rfl (cat_room rfl) dX0_begin_18) (fun σ9 hF ha => ?_)
  refine g_aload_n (i := 0) K hl dX0_begin_21 rfl rfl ?_
  refine g_iconst K dX0_begin_22 lc_0 ?_
  refine xp_X0_62 X hF ha rfl dX0_begin_23 (fun σ10 hF ha => ?_)
  refine g_iconst K dX0_begin_26 lc_0 ?_
  refine g_istore_n (i := 1) K hl dX0_begin_27 rfl rfl rfl (fun ls hl => ?_)
  exact L28  G _ _ ls hF ha (lq_sub hl rfl)

theorem cpx_X2_init : cpI yX2_init cX2_init 1 0 := ⟨rfl, q221, q150, q222, by decide +kernel⟩
set_option maxHeartbeats 4000000 in
set_option maxRecDepth 100000 in
theorem w_X2_init {l : Launch} {D : va_G} {cx ro : Nat → Nat} {A : Nat → Prop} {TL SL : Nat}  (σ0 : XS) (th : Nat)  (r : XS) (hF : X_X2_init TL SL σ0 th = some r) : xMet l D cx ro A TL SL yX2_init cX2_init 1 none 1 true wx_X2_init [.ref th] σ0 none r := by
  refine x_of (l9 := [(0, some (.ref th))]) (by decide) (by exact Nat.le_of_ble_eq_true rfl) (by rfl) ?_
  intro p e s m args below meth c ls X K hnm hl hlm
  have ha : agW true wx_X2_init σ0 σ0 := agW.rf
  unfold X_X2_init at hF
  refine g_aload_n (i := 0) K hl dX2_init_0 rfl rfl ?_
  refine x_objI X hl q223 rfl dX2_init_1 ?_
  refine g_aload_n (i := 0) K hl dX2_init_4 rfl rfl ?_
  refine g_bipush K dX2_init_5 lb_10 ?_
  refine x_newA0 X hF ha dX2_init_7 (fun q1 σ2 hF ha => ?_)
  refine xp_X2_7 X hF hnm ha rfl dX2_init_9 (fun σ3 hF ha => ?_)
  exact x_vretV X hF ha dX2_init_12

theorem cpx_X1_init : cpI yX1_init cX1_init 1 0 := ⟨rfl, q187, q146, q188, by decide +kernel⟩
set_option maxHeartbeats 4000000 in
set_option maxRecDepth 100000 in
theorem w_X1_init {l : Launch} {D : va_G} {cx ro : Nat → Nat} {A : Nat → Prop} {TL SL : Nat}  (σ0 : XS) (th : Nat)  (r : XS) (hF : X_X1_init TL SL ro σ0 th = some r) : xMet l D cx ro A TL SL yX1_init cX1_init 1 none 4 true wx_X1_init [.ref th] σ0 none r := by
  refine x_of (l9 := [(0, some (.ref th))]) (by decide) (by exact Nat.le_of_ble_eq_true rfl) (by rfl) ?_
  intro p e s m args below meth c ls X K hnm hl hlm
  have ha : agW true wx_X1_init σ0 σ0 := agW.rf
  unfold X_X1_init at hF
  refine g_aload_n (i := 0) K hl dX1_init_0 rfl rfl ?_
  refine x_objI X hl q189 rfl dX1_init_1 ?_
  refine g_aload_n (i := 0) K hl dX1_init_4 rfl rfl ?_
  refine g_bipush K dX1_init_5 lb_10 ?_
  refine xp_X1_9 X hF ha rfl dX1_init_7 (fun σ1 hF ha => ?_)
  refine g_aload_n (i := 0) K hl dX1_init_10 rfl rfl ?_
  refine g_iconst K dX1_init_11 lc_5 ?_
  refine x_anew (t := 3) X ⟨rfl, rfl⟩ hF (by decide) rfl q190 X.k.2.2.2.2.2.2.2.1 ha dX1_init_12 (fun q2 σ3 hF ha => ?_)
  refine xp_X1_17 X hF hnm ha rfl dX1_init_15 (fun σ4 hF ha => ?_)
  refine g_aload_n (i := 0) K hl dX1_init_18 rfl rfl ?_
  refine x_newO X ⟨rfl, rfl⟩ hF ⟨_, rfl⟩ q192 q193 q149 ha dX1_init_19 (fun q5 σ6 hF ha => ?_)
  refine g_dup K dX1_init_22 rfl ?_
  have hlZ := hl
  obtain ⟨q7, hq9, hZ⟩ := nnO_i hF
  cases hq9
  have hF := hZ
  clear hZ
  have hl := hlZ
  clear hlZ
  refine x_callV hF ha rfl (fun t h => x_rI X hl (w_J2_init _ _  t h) cpx_J2_init q194 rfl rfl rfl rfl (cat_room rfl) dX1_init_23) (fun σ8 hF ha => ?_)
  refine xp_X1_24 X hF hnm ha rfl dX1_init_26 (fun σ9 hF ha => ?_)
  refine g_aload_n (i := 0) K hl dX1_init_29 rfl rfl ?_
  refine x_newO X ⟨rfl, rfl⟩ hF ⟨_, rfl⟩ q192 q193 q149 ha dX1_init_30 (fun q10 σ11 hF ha => ?_)
  refine g_dup K dX1_init_33 rfl ?_
  have hlZ := hl
  obtain ⟨q12, hq9, hZ⟩ := nnO_i hF
  cases hq9
  have hF := hZ
  clear hZ
  have hl := hlZ
  clear hlZ
  refine x_callV hF ha rfl (fun t h => x_rI X hl (w_J2_init _ _  t h) cpx_J2_init q194 rfl rfl rfl rfl (cat_room rfl) dX1_init_34) (fun σ13 hF ha => ?_)
  refine xp_X1_28 X hF hnm ha rfl dX1_init_37 (fun σ14 hF ha => ?_)
  refine g_aload_n (i := 0) K hl dX1_init_40 rfl rfl ?_
  refine x_newO X ⟨rfl, rfl⟩ hF ⟨_, rfl⟩ q192 q193 q149 ha dX1_init_41 (fun q15 σ16 hF ha => ?_)
  refine g_dup K dX1_init_44 rfl ?_
  have hlZ := hl
  obtain ⟨q17, hq9, hZ⟩ := nnO_i hF
  cases hq9
  have hF := hZ
  clear hZ
  have hl := hlZ
  clear hlZ
  refine x_callV hF ha rfl (fun t h => x_rI X hl (w_J2_init _ _  t h) cpx_J2_init q194 rfl rfl rfl rfl (cat_room rfl) dX1_init_45) (fun σ18 hF ha => ?_)
  refine xp_X1_31 X hF hnm ha rfl dX1_init_48 (fun σ19 hF ha => ?_)
  refine g_aload_n (i := 0) K hl dX1_init_51 rfl rfl ?_
  refine x_newO X ⟨rfl, rfl⟩ hF ⟨_, rfl⟩ q218 q219 q150 ha dX1_init_52 (fun q20 σ21 hF ha => ?_)
  refine g_dup K dX1_init_55 rfl ?_
  have hlZ := hl
  obtain ⟨q22, hq9, hZ⟩ := nnO_i hF
  cases hq9
  have hF := hZ
  clear hZ
  have hl := hlZ
  clear hlZ
  refine x_callV hF ha rfl (fun t h => x_rIN X hl (w_X2_init _ _  t h) cpx_X2_init (List.mem_of_getElem? (i := 34) rfl) rfl rfl rfl rfl (cat_room rfl) dX1_init_56) (fun σ23 hF ha => ?_)
  refine xp_X1_37 X hF hnm ha rfl dX1_init_59 (fun σ24 hF ha => ?_)
  exact x_vretV X hF ha dX1_init_62

theorem cpx_X3_init : cpI yX3_init cX3_init 2 1 := ⟨rfl, q296, q151, q297, by decide +kernel⟩
set_option maxHeartbeats 4000000 in
set_option maxRecDepth 100000 in
theorem w_X3_init {l : Launch} {D : va_G} {cx ro : Nat → Nat} {A : Nat → Prop} {TL SL : Nat}  (σ0 : XS) (th : Nat) (a0 : Option Nat) (r : XS) (hF : X_X3_init σ0 th a0 = some r) : xMet l D cx ro A TL SL yX3_init cX3_init 2 none 1 false wx_X3_init [.ref th, va_rf a0] σ0 none r := by
  refine x_of (l9 := [(0, some (.ref th)), (1, some (va_rf a0))]) (by decide) (by cases a0 <;> exact Nat.le_of_ble_eq_true rfl) (by cases a0 <;> rfl) ?_
  intro p e s m args below meth c ls X K hnm hl hlm
  have ha : agW false wx_X3_init σ0 σ0 := agW.rf
  unfold X_X3_init at hF
  refine g_aload_n (i := 0) K hl dX3_init_0 rfl rfl ?_
  refine x_objI X hl q298 rfl dX3_init_1 ?_
  refine g_aload_n (i := 0) K hl dX3_init_4 rfl rfl ?_
  refine g_aloadR_n (i := 1) K hl dX3_init_5 rfl rfl ?_
  refine xp_X3_7 X hF ha rfl dX3_init_6 (fun σ1 hF ha => ?_)
  exact x_vretV X hF ha dX3_init_9

theorem cpx_X0_init : cpI yX0_init cX0_init 1 0 := ⟨rfl, q179, q145, q180, by decide +kernel⟩
set_option maxHeartbeats 4000000 in
set_option maxRecDepth 100000 in
theorem w_X0_init {l : Launch} {D : va_G} {cx ro : Nat → Nat} {A : Nat → Prop} {TL SL : Nat} (G : Nat) (σ0 : XS) (th : Nat)  (r : XS) (hF : X_X0_init TL SL ro G σ0 th = some r) : xMet l D cx ro A TL SL yX0_init cX0_init 1 none 5 true wx_X0_init [.ref th] σ0 none r := by
  refine x_of (l9 := [(0, some (.ref th))]) (by decide) (by exact Nat.le_of_ble_eq_true rfl) (by rfl) ?_
  intro p e s m args below meth c ls X K hnm hl hlm
  have ha : agW true wx_X0_init σ0 σ0 := agW.rf
  unfold X_X0_init at hF
  refine g_aload_n (i := 0) K hl dX0_init_0 rfl rfl ?_
  refine x_objI X hl q181 rfl dX0_init_1 ?_
  refine g_aload_n (i := 0) K hl dX0_init_4 rfl rfl ?_
  refine x_newO X ⟨rfl, rfl⟩ hF ⟨_, rfl⟩ q184 q185 q146 ha dX0_init_5 (fun q1 σ2 hF ha => ?_)
  refine g_dup K dX0_init_8 rfl ?_
  have hlZ := hl
  obtain ⟨q3, hq9, hZ⟩ := nnO_i hF
  cases hq9
  have hF := hZ
  clear hZ
  have hl := hlZ
  clear hlZ
  refine x_callV hF ha rfl (fun t h => x_rIN X hl (w_X1_init _ _  t h) cpx_X1_init (List.mem_of_getElem? (i := 5) rfl) rfl rfl rfl rfl (cat_room rfl) dX0_init_9) (fun σ4 hF ha => ?_)
  refine xp_X0_12 X hF ha rfl dX0_init_12 (fun σ5 hF ha => ?_)
  refine g_aload_n (i := 0) K hl dX0_init_15 rfl rfl ?_
  refine g_sipush K dX0_init_16 ls_1600 ?_
  refine x_newA1 X hF ha dX0_init_19 (fun q6 σ7 hF ha => ?_)
  refine xp_X0_16 X hF hnm ha rfl dX0_init_21 (fun σ8 hF ha => ?_)
  refine g_aload_n (i := 0) K hl dX0_init_24 rfl rfl ?_
  refine g_iconst K dX0_init_25 lc_m1 ?_
  refine xp_X0_20 X hF ha rfl dX0_init_26 (fun σ9 hF ha => ?_)
  refine g_aload_n (i := 0) K hl dX0_init_29 rfl rfl ?_
  refine x_newO X ⟨rfl, rfl⟩ hF ⟨_, rfl⟩ q290 q193 q149 ha dX0_init_30 (fun q10 σ11 hF ha => ?_)
  refine g_dup K dX0_init_33 rfl ?_
  have hlZ := hl
  obtain ⟨q12, hq9, hZ⟩ := nnO_i hF
  cases hq9
  have hF := hZ
  clear hZ
  have hl := hlZ
  clear hlZ
  refine x_callV hF ha rfl (fun t h => x_rI X hl (w_J2_init _ _  t h) cpx_J2_init q291 rfl rfl rfl rfl (cat_room rfl) dX0_init_34) (fun σ13 hF ha => ?_)
  refine xp_X0_27 X hF hnm ha rfl dX0_init_37 (fun σ14 hF ha => ?_)
  refine g_aload_n (i := 0) K hl dX0_init_40 rfl rfl ?_
  refine x_newO X ⟨rfl, rfl⟩ hF ⟨_, rfl⟩ q290 q193 q149 ha dX0_init_41 (fun q15 σ16 hF ha => ?_)
  refine g_dup K dX0_init_44 rfl ?_
  have hlZ := hl
  obtain ⟨q17, hq9, hZ⟩ := nnO_i hF
  cases hq9
  have hF := hZ
  clear hZ
  have hl := hlZ
  clear hlZ
  refine x_callV hF ha rfl (fun t h => x_rI X hl (w_J2_init _ _  t h) cpx_J2_init q291 rfl rfl rfl rfl (cat_room rfl) dX0_init_45) (fun σ18 hF ha => ?_)
  refine xp_X0_31 X hF hnm ha rfl dX0_init_48 (fun σ19 hF ha => ?_)
  refine g_aload_n (i := 0) K hl dX0_init_51 rfl rfl ?_
  refine g_sipush K dX0_init_52 ls_1230 ?_
  refine x_newA0 X hF ha dX0_init_55 (fun q20 σ21 hF ha => ?_)
  refine xp_X0_34 X hF hnm ha rfl dX0_init_57 (fun σ22 hF ha => ?_)
  refine g_aload_n (i := 0) K hl dX0_init_60 rfl rfl ?_
  refine g_bipush K dX0_init_61 lb_36 ?_
  refine x_newA0 X hF ha dX0_init_63 (fun q23 σ24 hF ha => ?_)
  refine xp_X0_38 X hF hnm ha rfl dX0_init_65 (fun σ25 hF ha => ?_)
  refine g_aload_n (i := 0) K hl dX0_init_68 rfl rfl ?_
  refine g_iconst K dX0_init_69 lc_4 ?_
  refine x_newA0 X hF ha dX0_init_70 (fun q26 σ27 hF ha => ?_)
  refine xp_X0_41 X hF hnm ha rfl dX0_init_72 (fun σ28 hF ha => ?_)
  refine g_aload_n (i := 0) K hl dX0_init_75 rfl rfl ?_
  refine x_newO X ⟨rfl, rfl⟩ hF ⟨_, rfl⟩ q290 q193 q149 ha dX0_init_76 (fun q29 σ30 hF ha => ?_)
  refine g_dup K dX0_init_79 rfl ?_
  have hlZ := hl
  obtain ⟨q31, hq9, hZ⟩ := nnO_i hF
  cases hq9
  have hF := hZ
  clear hZ
  have hl := hlZ
  clear hlZ
  refine x_callV hF ha rfl (fun t h => x_rI X hl (w_J2_init _ _  t h) cpx_J2_init q291 rfl rfl rfl rfl (cat_room rfl) dX0_init_80) (fun σ32 hF ha => ?_)
  refine xp_X0_44 X hF hnm ha rfl dX0_init_83 (fun σ33 hF ha => ?_)
  refine g_aload_n (i := 0) K hl dX0_init_86 rfl rfl ?_
  refine g_iconst K dX0_init_87 lc_3 ?_
  refine x_anew (t := 4) X ⟨rfl, rfl⟩ hF (by decide) rfl q292 X.k.2.2.2.2.2.2.2.2 ha dX0_init_88 (fun q34 σ35 hF ha => ?_)
  refine g_dup K dX0_init_91 rfl ?_
  refine g_iconst K dX0_init_92 lc_0 ?_
  refine x_newO X ⟨rfl, rfl⟩ hF ⟨_, rfl⟩ q292 q294 q151 ha dX0_init_93 (fun q36 σ37 hF ha => ?_)
  refine g_dup K dX0_init_96 rfl ?_
  refine g_aconst K dX0_init_97 ?_
  have hlZ := hl
  obtain ⟨q38, hq9, hZ⟩ := nnO_i hF
  cases hq9
  have hF := hZ
  clear hZ
  have hl := hlZ
  clear hlZ
  refine x_callV hF ha rfl (fun t h => x_rI X hl (w_X3_init _ _ _ t h) cpx_X3_init q295 rfl rfl rfl rfl (by simp [Value.category, rf_cat]) dX0_init_98) (fun σ39 hF ha => ?_)
  refine x_aast X hF ha rfl dX0_init_101 (fun σ40 hF ha => ?_)
  refine g_dup K dX0_init_102 rfl ?_
  refine g_iconst K dX0_init_103 lc_1 ?_
  refine x_newO X ⟨rfl, rfl⟩ hF ⟨_, rfl⟩ q292 q294 q151 ha dX0_init_104 (fun q41 σ42 hF ha => ?_)
  refine g_dup K dX0_init_107 rfl ?_
  refine g_aconst K dX0_init_108 ?_
  have hlZ := hl
  obtain ⟨q43, hq9, hZ⟩ := nnO_i hF
  cases hq9
  have hF := hZ
  clear hZ
  have hl := hlZ
  clear hlZ
  refine x_callV hF ha rfl (fun t h => x_rI X hl (w_X3_init _ _ _ t h) cpx_X3_init q295 rfl rfl rfl rfl (by simp [Value.category, rf_cat]) dX0_init_109) (fun σ44 hF ha => ?_)
  refine x_aast X hF ha rfl dX0_init_112 (fun σ45 hF ha => ?_)
  refine g_dup K dX0_init_113 rfl ?_
  refine g_iconst K dX0_init_114 lc_2 ?_
  refine x_newO X ⟨rfl, rfl⟩ hF ⟨_, rfl⟩ q292 q294 q151 ha dX0_init_115 (fun q46 σ47 hF ha => ?_)
  refine g_dup K dX0_init_118 rfl ?_
  refine g_aconst K dX0_init_119 ?_
  have hlZ := hl
  obtain ⟨q48, hq9, hZ⟩ := nnO_i hF
  cases hq9
  have hF := hZ
  clear hZ
  have hl := hlZ
  clear hlZ
  refine x_callV hF ha rfl (fun t h => x_rI X hl (w_X3_init _ _ _ t h) cpx_X3_init q295 rfl rfl rfl rfl (by simp [Value.category, rf_cat]) dX0_init_120) (fun σ49 hF ha => ?_)
  refine x_aast X hF ha rfl dX0_init_123 (fun σ50 hF ha => ?_)
  refine xp_X0_52 X hF hnm ha rfl dX0_init_124 (fun σ51 hF ha => ?_)
  refine g_aload_n (i := 0) K hl dX0_init_127 rfl rfl ?_
  have hlZ := hl
  obtain ⟨q52, hq9, ht_q52, hZ⟩ := nnX_i hF
  cases hq9
  have hF := hZ
  clear hZ
  have hl := hlZ
  clear hlZ
  refine x_callV hF ha rfl (fun t h => x_rV X hl (w_X0_begin G _ _  t h) ht_q52 rfl rfl cpx_X0_begin q305 rfl rfl rfl rfl (cat_room rfl) dX0_init_128) (fun σ53 hF ha => ?_)
  exact x_vretV X hF ha dX0_init_131

theorem cpx_J10_newLength : cpS yJ10_newLength cJ10_newLength 4 (some .int) 3 := ⟨q763, q168, q764, by decide +kernel⟩
set_option maxHeartbeats 4000000 in
set_option maxRecDepth 100000 in
theorem w_J10_newLength {l : Launch} {D : va_G} {cx ro : Nat → Nat} {A : Nat → Prop} {TL SL : Nat}  (σ0 : XS) (a0 : Int32) (a1 : Int32) (a2 : Int32) (r : Int32) (hF : X_J10_newLength σ0 a0 a1 a2 = some r) : xMet l D cx ro A TL SL yJ10_newLength cJ10_newLength 4 (some .int) 1 false wx_J10_newLength [.int a0, .int a1, .int a2] σ0 (some (.int r)) σ0 := by
  refine x_of (l9 := [(0, some (.int a0)), (1, some (.int a1)), (2, some (.int a2))]) (by decide) (by exact Nat.le_of_ble_eq_true rfl) (by rfl) ?_
  intro p e s m args below meth c ls X K hnm hl hlm
  have L21 : ∀ (x0 : Int32) (x1 : Int32) (ls : Array Slot), X_J10_newLength_L21 σ0  x0 x1 = some r → lq ls 4 [(0, some (.int x0)), (1, some (.int x1))] → ZX p l e 1 TL SL s m args below meth c D cx ro A false wx_J10_newLength σ0 (some (.int r)) σ0 σ0 (F0 m 21 ls []) := by
    intro  x0 x1 ls hF hl
    unfold X_J10_newLength_L21 at hF
    refine g_iload_n (i := 0) K hl dJ10_newLength_21 rfl rfl ?_
    refine g_iload_n (i := 1) K hl dJ10_newLength_22 rfl rfl ?_
    exact absurd hF (fun h => by cases h)
  unfold X_J10_newLength at hF
  refine g_iload_n (i := 0) K hl dJ10_newLength_0 rfl rfl ?_
  refine g_iload_n (i := 1) K hl dJ10_newLength_1 rfl rfl ?_
  refine g_iload_n (i := 2) K hl dJ10_newLength_2 rfl rfl ?_
  refine x_mmax X hl q765 rfl rfl dJ10_newLength_3 ?_
  refine g_iadd K dJ10_newLength_6 ?_
  refine g_istore_n (i := 3) K hl dJ10_newLength_7 rfl rfl rfl (fun ls hl => ?_)
  refine g_iconst K dJ10_newLength_8 lc_0 ?_
  refine g_iload_n (i := 3) K hl dJ10_newLength_9 rfl rfl ?_
  refine g_icmp_ge (tgt := 21) K hF dJ10_newLength_10 (by decide) (fun hF => ?_) (fun hF => ?_)
  · exact L21  _ _ ls hF (lq_sub hl rfl)
  · refine g_iload_n (i := 3) K hl dJ10_newLength_13 rfl rfl ?_
    refine g_ldc K dJ10_newLength_14 q768 ?_
    refine g_icmp_gt (tgt := 21) K hF dJ10_newLength_16 (by decide) (fun hF => ?_) (fun hF => ?_)
    · exact L21  _ _ ls hF (lq_sub hl rfl)
    · refine g_iload_n (i := 3) K hl dJ10_newLength_19 rfl rfl ?_
      exact x_iretP X hF agW.rf dJ10_newLength_20

theorem cpx_J2_grow_2 : cpV yJ2_grow_2 cJ2_grow_2 4 (some (.array (.object "java/lang/Object"))) 1 := ⟨q760, qs32, q149, q761, by decide +kernel⟩
set_option maxHeartbeats 4000000 in
set_option maxRecDepth 100000 in
theorem w_J2_grow_2 {l : Launch} {D : va_G} {cx ro : Nat → Nat} {A : Nat → Prop} {TL SL : Nat}  (σ0 : XS) (th : Nat) (a0 : Int32) (r : (Option Nat × XS)) (hF : X_J2_grow_2 TL SL ro σ0 th a0 = some r) : xMet l D cx ro A TL SL yJ2_grow_2 cJ2_grow_2 4 (some (.array (.object "java/lang/Object"))) 6 true wx_J2_grow_2 [.ref th, .int a0] σ0 (some (va_rf r.1)) r.2 := by
  refine x_of (l9 := [(0, some (.ref th)), (1, some (.int a0))]) (by decide) (by exact Nat.le_of_ble_eq_true rfl) (by rfl) ?_
  intro p e s m args below meth c ls X K hnm hl hlm
  have L20 : ∀ (σ : XS) (x1 : Int32) (x2 : Int32) (ls : Array Slot), X_J2_grow_2_L20 TL SL ro th  σ x1 x2 = some r → agW true wx_J2_grow_2 σ0 σ → lq ls 4 [(0, some (.ref th)), (1, some (.int x1)), (2, some (.int x2))] → ZX p l e 6 TL SL s m args below meth c D cx ro A true wx_J2_grow_2 σ0 (some (va_rf r.1)) r.2 σ (F0 m 20 ls []) := by
    intro  σ x1 x2 ls hF ha hl
    unfold X_J2_grow_2_L20 at hF
    refine g_iload_n (i := 2) K hl dJ2_grow_2_20 rfl rfl ?_
    refine g_iload_n (i := 1) K hl dJ2_grow_2_21 rfl rfl ?_
    refine g_iload_n (i := 2) K hl dJ2_grow_2_22 rfl rfl ?_
    refine g_isub K dJ2_grow_2_23 ?_
    refine g_iload_n (i := 2) K hl dJ2_grow_2_24 rfl rfl ?_
    refine g_iconst K dJ2_grow_2_25 lc_1 ?_
    refine g_ishr K dJ2_grow_2_26 ?_
    refine x_callP (V := Value.int) hF (fun t h => x_rS X hl (w_J10_newLength _ _ _ _ t h) cpx_J10_newLength q762 rfl rfl rfl rfl (cat_room rfl) dJ2_grow_2_27) (fun t1 hF => ?_)
    refine g_istore_n (i := 3) K hl dJ2_grow_2_30 rfl rfl rfl (fun ls hl => ?_)
    refine g_aload_n (i := 0) K hl dJ2_grow_2_31 rfl rfl ?_
    refine g_aload_n (i := 0) K hl dJ2_grow_2_32 rfl rfl ?_
    refine xg_J2_9 X hF dJ2_grow_2_33 (fun t2 hF => ?_)
    refine g_iload_n (i := 3) K hl dJ2_grow_2_36 rfl rfl ?_
    refine x_callW (V := va_rf) hF ha rfl (fun t h => xr_Arrays_copyOf X hl h q772 rfl rfl rfl dJ2_grow_2_37) (fun t3 σ4 hF ha => ?_)
    refine g_dup_x1 K dJ2_grow_2_40 (rf_cat _) rfl ?_
    refine xp_J2_9 X hF ha rfl dJ2_grow_2_41 (fun σ5 hF ha => ?_)
    exact x_aretW X hF (Or.inr ⟨_, rfl⟩) ha dJ2_grow_2_44
  have ha : agW true wx_J2_grow_2 σ0 σ0 := agW.rf
  unfold X_J2_grow_2 at hF
  refine g_aload_n (i := 0) K hl dJ2_grow_2_0 rfl rfl ?_
  refine xg_J2_9 X hF dJ2_grow_2_1 (fun t1 hF => ?_)
  refine x_alen X hF dJ2_grow_2_4 (fun t2 hF => ?_)
  refine g_istore_n (i := 2) K hl dJ2_grow_2_5 rfl rfl rfl (fun ls hl => ?_)
  refine g_iload_n (i := 2) K hl dJ2_grow_2_6 rfl rfl ?_
  refine g_if_gt (tgt := 20) K hF dJ2_grow_2_7 (by decide) (fun hF => ?_) (fun hF => ?_)
  · exact L20  _ _ _ ls hF ha (lq_sub hl rfl)
  · refine g_aload_n (i := 0) K hl dJ2_grow_2_10 rfl rfl ?_
    refine xg_J2_9 X hF dJ2_grow_2_11 (fun t3 hF => ?_)
    refine x_gets (j := 4) X rfl q204 dJ2_grow_2_14 ?_
    refine g_acmp_eq (tgt := 45) K hF dJ2_grow_2_17 (by decide) (fun hF => ?_) (fun hF => ?_)
    · refine g_aload_n (i := 0) K hl dJ2_grow_2_45 rfl rfl ?_
      refine g_bipush K dJ2_grow_2_46 lb_10 ?_
      refine g_iload_n (i := 1) K hl dJ2_grow_2_48 rfl rfl ?_
      refine x_mmax X hl q812 rfl rfl dJ2_grow_2_49 ?_
      refine x_anew (t := 2) X ⟨rfl, rfl⟩ hF (by decide) rfl q813 X.k.2.2.2.2.2.2.1 ha dJ2_grow_2_52 (fun q4 σ5 hF ha => ?_)
      refine g_dup_x1 K dJ2_grow_2_55 rfl rfl ?_
      refine xp_J2_9 X hF ha rfl dJ2_grow_2_56 (fun σ6 hF ha => ?_)
      exact x_aretW X hF (Or.inr ⟨_, rfl⟩) ha dJ2_grow_2_59
    · exact L20  _ _ _ ls hF ha (lq_sub hl rfl)

theorem cpx_J2_grow : cpV yJ2_grow cJ2_grow 1 (some (.array (.object "java/lang/Object"))) 0 := ⟨q756, qs31, q149, q757, by decide +kernel⟩
set_option maxHeartbeats 4000000 in
set_option maxRecDepth 100000 in
theorem w_J2_grow {l : Launch} {D : va_G} {cx ro : Nat → Nat} {A : Nat → Prop} {TL SL : Nat}  (σ0 : XS) (th : Nat)  (r : (Option Nat × XS)) (hF : X_J2_grow TL SL ro σ0 th = some r) : xMet l D cx ro A TL SL yJ2_grow cJ2_grow 1 (some (.array (.object "java/lang/Object"))) 7 true wx_J2_grow [.ref th] σ0 (some (va_rf r.1)) r.2 := by
  refine x_of (l9 := [(0, some (.ref th))]) (by decide) (by exact Nat.le_of_ble_eq_true rfl) (by rfl) ?_
  intro p e s m args below meth c ls X K hnm hl hlm
  have ha : agW true wx_J2_grow σ0 σ0 := agW.rf
  unfold X_J2_grow at hF
  refine g_aload_n (i := 0) K hl dJ2_grow_0 rfl rfl ?_
  refine g_aload_n (i := 0) K hl dJ2_grow_1 rfl rfl ?_
  refine xg_J2_48 X hF dJ2_grow_2 (fun t1 hF => ?_)
  refine g_iconst K dJ2_grow_5 lc_1 ?_
  refine g_iadd K dJ2_grow_6 ?_
  have hlZ := hl
  obtain ⟨q2, hq9, ht_q2, hZ⟩ := nnX_i hF
  cases hq9
  have hF := hZ
  clear hZ
  have hl := hlZ
  clear hlZ
  refine x_callW (V := va_rf) hF ha rfl (fun t h => x_rV X hl (w_J2_grow_2 _ _ _ t h) ht_q2 rfl rfl cpx_J2_grow_2 q758 rfl rfl rfl rfl (cat_room rfl) dJ2_grow_7) (fun t3 σ4 hF ha => ?_)
  exact x_aretW X hF (Or.inr ⟨_, rfl⟩) ha dJ2_grow_10

theorem cpx_J2_add_2 : cpV yJ2_add_2 cJ2_add_2 4 none 3 := ⟨q752, qs30, q149, q753, by decide +kernel⟩
set_option maxHeartbeats 4000000 in
set_option maxRecDepth 100000 in
theorem w_J2_add_2 {l : Launch} {D : va_G} {cx ro : Nat → Nat} {A : Nat → Prop} {TL SL : Nat}  (σ0 : XS) (th : Nat) (a0 : Option Nat) (a1 : Option Nat) (a2 : Int32) (r : XS) (hF : X_J2_add_2 TL SL ro σ0 th a0 a1 a2 = some r) : xMet l D cx ro A TL SL yJ2_add_2 cJ2_add_2 4 none 8 true wx_J2_add_2 [.ref th, va_rf a0, va_rf a1, .int a2] σ0 none r := by
  refine x_of (l9 := [(0, some (.ref th)), (1, some (va_rf a0)), (2, some (va_rf a1)), (3, some (.int a2))]) (by decide) (by cases a0 <;> cases a1 <;> exact Nat.le_of_ble_eq_true rfl) (by cases a0 <;> cases a1 <;> rfl) ?_
  intro p e s m args below meth c ls X K hnm hl hlm
  have L11 : ∀ (σ : XS) (x1 : Option Nat) (x2 : Option Nat) (x3 : Int32) (ls : Array Slot), X_J2_add_2_L11 TL SL ro th  σ x1 x2 x3 = some r → agW true wx_J2_add_2 σ0 σ → lq ls 4 [(0, some (.ref th)), (1, some (va_rf x1)), (2, some (va_rf x2)), (3, some (.int x3))] → ZX p l e 8 TL SL s m args below meth c D cx ro A true wx_J2_add_2 σ0 none r σ (F0 m 11 ls []) := by
    intro  σ x1 x2 x3 ls hF ha hl
    unfold X_J2_add_2_L11 at hF
    refine g_aloadR_n (i := 2) K hl dJ2_add_2_11 rfl rfl ?_
    refine g_iload_n (i := 3) K hl dJ2_add_2_12 rfl rfl ?_
    refine g_aloadR_n (i := 1) K hl dJ2_add_2_13 rfl rfl ?_
    refine x_aast X hF ha rfl dJ2_add_2_14 (fun σ1 hF ha => ?_)
    refine g_aload_n (i := 0) K hl dJ2_add_2_15 rfl rfl ?_
    refine g_iload_n (i := 3) K hl dJ2_add_2_16 rfl rfl ?_
    refine g_iconst K dJ2_add_2_17 lc_1 ?_
    refine g_iadd K dJ2_add_2_18 ?_
    refine xp_J2_48 X hF ha rfl dJ2_add_2_19 (fun σ2 hF ha => ?_)
    exact x_vretV X hF ha dJ2_add_2_22
  have ha : agW true wx_J2_add_2 σ0 σ0 := agW.rf
  unfold X_J2_add_2 at hF
  refine g_iload_n (i := 3) K hl dJ2_add_2_0 rfl rfl ?_
  refine g_aloadR_n (i := 2) K hl dJ2_add_2_1 rfl rfl ?_
  refine x_alen X hF dJ2_add_2_2 (fun t1 hF => ?_)
  refine g_icmp_ne (tgt := 11) K hF dJ2_add_2_3 (by decide) (fun hF => ?_) (fun hF => ?_)
  · exact L11  _ _ _ _ ls hF ha (lq_sub hl rfl)
  · refine g_aload_n (i := 0) K hl dJ2_add_2_6 rfl rfl ?_
    have hlZ := hl
    obtain ⟨q2, hq9, ht_q2, hZ⟩ := nnX_i hF
    cases hq9
    have hF := hZ
    clear hZ
    have hl := hlZ
    clear hlZ
    refine x_callW (V := va_rf) hF ha rfl (fun t h => x_rV X hl (w_J2_grow _ _  t h) ht_q2 rfl rfl cpx_J2_grow q754 rfl rfl rfl rfl (cat_room rfl) dJ2_add_2_7) (fun t3 σ4 hF ha => ?_)
    refine g_astoreR_n (i := 2) K hl dJ2_add_2_10 rfl rfl (lkn_rf rfl) (fun ls hl => ?_)
    exact L11  _ _ _ _ ls hF ha (lq_sub hl rfl)

theorem cpx_J2_add : cpV yJ2_add cJ2_add 2 (some .boolean) 1 := ⟨q747, q748, q149, q749, by decide +kernel⟩
set_option maxHeartbeats 4000000 in
set_option maxRecDepth 100000 in
theorem w_J2_add {l : Launch} {D : va_G} {cx ro : Nat → Nat} {A : Nat → Prop} {TL SL : Nat}  (σ0 : XS) (th : Nat) (a0 : Option Nat) (r : (Int32 × XS)) (hF : X_J2_add TL SL ro σ0 th a0 = some r) : xMet l D cx ro A TL SL yJ2_add cJ2_add 2 (some .boolean) 9 true wx_J2_add [.ref th, va_rf a0] σ0 (some (.int r.1)) r.2 := by
  refine x_of (l9 := [(0, some (.ref th)), (1, some (va_rf a0))]) (by decide) (by cases a0 <;> exact Nat.le_of_ble_eq_true rfl) (by cases a0 <;> rfl) ?_
  intro p e s m args below meth c ls X K hnm hl hlm
  have ha : agW true wx_J2_add σ0 σ0 := agW.rf
  unfold X_J2_add at hF
  refine g_aload_n (i := 0) K hl dJ2_add_0 rfl rfl ?_
  refine g_dup K dJ2_add_1 rfl ?_
  refine xg_J2_63 X hF dJ2_add_2 (fun t1 hF => ?_)
  refine g_iconst K dJ2_add_5 lc_1 ?_
  refine g_iadd K dJ2_add_6 ?_
  refine xp_J2_63 X hF ha rfl dJ2_add_7 (fun σ2 hF ha => ?_)
  refine g_aload_n (i := 0) K hl dJ2_add_10 rfl rfl ?_
  refine g_aloadR_n (i := 1) K hl dJ2_add_11 rfl rfl ?_
  refine g_aload_n (i := 0) K hl dJ2_add_12 rfl rfl ?_
  refine xg_J2_9 X hF dJ2_add_13 (fun t3 hF => ?_)
  refine g_aload_n (i := 0) K hl dJ2_add_16 rfl rfl ?_
  refine xg_J2_48 X hF dJ2_add_17 (fun t4 hF => ?_)
  have hlZ := hl
  obtain ⟨q5, hq9, ht_q5, hZ⟩ := nnX_i hF
  cases hq9
  have hF := hZ
  clear hZ
  have hl := hlZ
  clear hlZ
  refine x_callV hF ha rfl (fun t h => x_rV X hl (w_J2_add_2 _ _ _ _ _ t h) ht_q5 rfl rfl cpx_J2_add_2 q750 rfl rfl rfl rfl (cat_room rfl) dJ2_add_20) (fun σ6 hF ha => ?_)
  refine g_iconst K dJ2_add_23 lc_1 ?_
  exact x_zretW X hF (Or.inr rfl) ha dJ2_add_24

theorem cpx_J2_fastRemove : cpV yJ2_fastRemove cJ2_fastRemove 4 none 2 := ⟨q1167, qs44, q149, q1168, by decide +kernel⟩
set_option maxHeartbeats 4000000 in
set_option maxRecDepth 100000 in
theorem w_J2_fastRemove {l : Launch} {D : va_G} {cx ro : Nat → Nat} {A : Nat → Prop} {TL SL : Nat}  (σ0 : XS) (th : Nat) (a0 : Option Nat) (a1 : Int32) (r : XS) (hF : X_J2_fastRemove σ0 th a0 a1 = some r) : xMet l D cx ro A TL SL yJ2_fastRemove cJ2_fastRemove 4 none 1 false wx_J2_fastRemove [.ref th, va_rf a0, .int a1] σ0 none r := by
  refine x_of (l9 := [(0, some (.ref th)), (1, some (va_rf a0)), (2, some (.int a1))]) (by decide) (by cases a0 <;> exact Nat.le_of_ble_eq_true rfl) (by cases a0 <;> rfl) ?_
  intro p e s m args below meth c ls X K hnm hl hlm
  have L34 : ∀ (σ : XS) (x1 : Option Nat) (x3 : Int32) (ls : Array Slot), X_J2_fastRemove_L34 th  σ x1 x3 = some r → agW false wx_J2_fastRemove σ0 σ → lq ls 4 [(0, some (.ref th)), (1, some (va_rf x1)), (3, some (.int x3))] → ZX p l e 1 TL SL s m args below meth c D cx ro A false wx_J2_fastRemove σ0 none r σ (F0 m 34 ls []) := by
    intro  σ x1 x3 ls hF ha hl
    unfold X_J2_fastRemove_L34 at hF
    refine g_aloadR_n (i := 1) K hl dJ2_fastRemove_34 rfl rfl ?_
    refine g_aload_n (i := 0) K hl dJ2_fastRemove_35 rfl rfl ?_
    refine g_iload_n (i := 3) K hl dJ2_fastRemove_36 rfl rfl ?_
    refine g_dup_x1 K dJ2_fastRemove_37 rfl rfl ?_
    refine xp_J2_48 X hF ha rfl dJ2_fastRemove_38 (fun σ1 hF ha => ?_)
    refine g_aconst K dJ2_fastRemove_41 ?_
    refine x_aast X hF ha rfl dJ2_fastRemove_42 (fun σ2 hF ha => ?_)
    exact x_vretV X hF ha dJ2_fastRemove_43
  have ha : agW false wx_J2_fastRemove σ0 σ0 := agW.rf
  unfold X_J2_fastRemove at hF
  refine g_aload_n (i := 0) K hl dJ2_fastRemove_0 rfl rfl ?_
  refine g_dup K dJ2_fastRemove_1 rfl ?_
  refine xg_J2_63 X hF dJ2_fastRemove_2 (fun t1 hF => ?_)
  refine g_iconst K dJ2_fastRemove_5 lc_1 ?_
  refine g_iadd K dJ2_fastRemove_6 ?_
  refine xp_J2_63 X hF ha rfl dJ2_fastRemove_7 (fun σ2 hF ha => ?_)
  refine g_aload_n (i := 0) K hl dJ2_fastRemove_10 rfl rfl ?_
  refine xg_J2_48 X hF dJ2_fastRemove_11 (fun t3 hF => ?_)
  refine g_iconst K dJ2_fastRemove_14 lc_1 ?_
  refine g_isub K dJ2_fastRemove_15 ?_
  refine g_dup K dJ2_fastRemove_16 rfl ?_
  refine g_istore_n (i := 3) K hl dJ2_fastRemove_17 rfl rfl rfl (fun ls hl => ?_)
  refine g_iload_n (i := 2) K hl dJ2_fastRemove_18 rfl rfl ?_
  refine g_icmp_le (tgt := 34) K hF dJ2_fastRemove_19 (by decide) (fun hF => ?_) (fun hF => ?_)
  · exact L34  _ _ _ ls hF ha (lq_sub hl rfl)
  · refine g_aloadR_n (i := 1) K hl dJ2_fastRemove_22 rfl rfl ?_
    refine g_iload_n (i := 2) K hl dJ2_fastRemove_23 rfl rfl ?_
    refine g_iconst K dJ2_fastRemove_24 lc_1 ?_
    refine g_iadd K dJ2_fastRemove_25 ?_
    refine g_aloadR_n (i := 1) K hl dJ2_fastRemove_26 rfl rfl ?_
    refine g_iload_n (i := 2) K hl dJ2_fastRemove_27 rfl rfl ?_
    refine g_iload_n (i := 3) K hl dJ2_fastRemove_28 rfl rfl ?_
    refine g_iload_n (i := 2) K hl dJ2_fastRemove_29 rfl rfl ?_
    refine g_isub K dJ2_fastRemove_30 ?_
    refine x_cpQ X hl hF ha rfl q1169 rfl rfl dJ2_fastRemove_31 (fun σ4 hF ha => ?_)
    exact L34  _ _ _ ls hF ha (lq_sub hl rfl)

theorem cpx_J5_checkIndex : cpS yJ5_checkIndex cJ5_checkIndex 3 (some .int) 3 := ⟨q487, q156, q488, by decide +kernel⟩
set_option maxHeartbeats 4000000 in
set_option maxRecDepth 100000 in
theorem w_J5_checkIndex {l : Launch} {D : va_G} {cx ro : Nat → Nat} {A : Nat → Prop} {TL SL : Nat}  (σ0 : XS) (a0 : Int32) (a1 : Int32) (a2 : Option Nat) (r : Int32) (hF : X_J5_checkIndex σ0 a0 a1 a2 = some r) : xMet l D cx ro A TL SL yJ5_checkIndex cJ5_checkIndex 3 (some .int) 0 false wx_J5_checkIndex [.int a0, .int a1, va_rf a2] σ0 (some (.int r)) σ0 := by
  refine x_of (l9 := [(0, some (.int a0)), (1, some (.int a1)), (2, some (va_rf a2))]) (by decide) (by cases a2 <;> exact Nat.le_of_ble_eq_true rfl) (by cases a2 <;> rfl) ?_
  intro p e s m args below meth c ls X K hnm hl hlm
  have L9 : ∀ (x0 : Int32) (x1 : Int32) (x2 : Option Nat) (ls : Array Slot), X_J5_checkIndex_L9 σ0  x0 x1 x2 = some r → lq ls 3 [(0, some (.int x0)), (1, some (.int x1)), (2, some (va_rf x2))] → ZX p l e 0 TL SL s m args below meth c D cx ro A false wx_J5_checkIndex σ0 (some (.int r)) σ0 σ0 (F0 m 9 ls []) := by
    intro  x0 x1 x2 ls hF hl
    unfold X_J5_checkIndex_L9 at hF
    refine g_aloadR_n (i := 2) K hl dJ5_checkIndex_9 rfl rfl ?_
    refine g_iload_n (i := 0) K hl dJ5_checkIndex_10 rfl rfl ?_
    refine g_iload_n (i := 1) K hl dJ5_checkIndex_11 rfl rfl ?_
    exact absurd hF (fun h => by cases h)
  unfold X_J5_checkIndex at hF
  refine g_iload_n (i := 0) K hl dJ5_checkIndex_0 rfl rfl ?_
  refine g_if_lt (tgt := 9) K hF dJ5_checkIndex_1 (by decide) (fun hF => ?_) (fun hF => ?_)
  · exact L9  _ _ _ ls hF (lq_sub hl rfl)
  · refine g_iload_n (i := 0) K hl dJ5_checkIndex_4 rfl rfl ?_
    refine g_iload_n (i := 1) K hl dJ5_checkIndex_5 rfl rfl ?_
    refine g_icmp_lt (tgt := 16) K hF dJ5_checkIndex_6 (by decide) (fun hF => ?_) (fun hF => ?_)
    · refine g_iload_n (i := 0) K hl dJ5_checkIndex_16 rfl rfl ?_
      exact x_iretP X hF agW.rf dJ5_checkIndex_17
    · exact L9  _ _ _ ls hF (lq_sub hl rfl)

theorem cpx_J9_checkIndex : cpS yJ9_checkIndex cJ9_checkIndex 2 (some .int) 2 := ⟨q630, q161, q631, by decide +kernel⟩
set_option maxHeartbeats 4000000 in
set_option maxRecDepth 100000 in
theorem w_J9_checkIndex {l : Launch} {D : va_G} {cx ro : Nat → Nat} {A : Nat → Prop} {TL SL : Nat}  (σ0 : XS) (a0 : Int32) (a1 : Int32) (r : Int32) (hF : X_J9_checkIndex σ0 a0 a1 = some r) : xMet l D cx ro A TL SL yJ9_checkIndex cJ9_checkIndex 2 (some .int) 1 false wx_J9_checkIndex [.int a0, .int a1] σ0 (some (.int r)) σ0 := by
  refine x_of (l9 := [(0, some (.int a0)), (1, some (.int a1))]) (by decide) (by exact Nat.le_of_ble_eq_true rfl) (by rfl) ?_
  intro p e s m args below meth c ls X K hnm hl hlm
  unfold X_J9_checkIndex at hF
  refine g_iload_n (i := 0) K hl dJ9_checkIndex_0 rfl rfl ?_
  refine g_iload_n (i := 1) K hl dJ9_checkIndex_1 rfl rfl ?_
  refine g_aconst K dJ9_checkIndex_2 ?_
  refine x_callP (V := Value.int) hF (fun t h => x_rS X hl (w_J5_checkIndex _ _ _ _ t h) cpx_J5_checkIndex q632 rfl rfl rfl rfl (cat_room rfl) dJ9_checkIndex_3) (fun t1 hF => ?_)
  exact x_iretP X hF agW.rf dJ9_checkIndex_6

theorem cpx_J2_remove : cpV yJ2_remove cJ2_remove 4 (some (.object "java/lang/Object")) 1 := ⟨q1162, q1163, q149, q1164, by decide +kernel⟩
set_option maxHeartbeats 4000000 in
set_option maxRecDepth 100000 in
theorem w_J2_remove {l : Launch} {D : va_G} {cx ro : Nat → Nat} {A : Nat → Prop} {TL SL : Nat}  (σ0 : XS) (th : Nat) (a0 : Int32) (r : (Option Nat × XS)) (hF : X_J2_remove σ0 th a0 = some r) : xMet l D cx ro A TL SL yJ2_remove cJ2_remove 4 (some (.object "java/lang/Object")) 2 false wx_J2_remove [.ref th, .int a0] σ0 (some (va_rf r.1)) r.2 := by
  refine x_of (l9 := [(0, some (.ref th)), (1, some (.int a0))]) (by decide) (by exact Nat.le_of_ble_eq_true rfl) (by rfl) ?_
  intro p e s m args below meth c ls X K hnm hl hlm
  have ha : agW false wx_J2_remove σ0 σ0 := agW.rf
  unfold X_J2_remove at hF
  refine g_iload_n (i := 1) K hl dJ2_remove_0 rfl rfl ?_
  refine g_aload_n (i := 0) K hl dJ2_remove_1 rfl rfl ?_
  refine xg_J2_48 X hF dJ2_remove_2 (fun t1 hF => ?_)
  refine x_callP (V := Value.int) hF (fun t h => x_rS X hl (w_J9_checkIndex _ _ _ t h) cpx_J9_checkIndex q629 rfl rfl rfl rfl (cat_room rfl) dJ2_remove_5) (fun t2 hF => ?_)
  refine g_pop K dJ2_remove_8 rfl ?_
  refine g_aload_n (i := 0) K hl dJ2_remove_9 rfl rfl ?_
  refine xg_J2_9 X hF dJ2_remove_10 (fun t3 hF => ?_)
  refine g_astoreR_n (i := 2) K hl dJ2_remove_13 rfl rfl rfl (fun ls hl => ?_)
  refine g_aloadR_n (i := 2) K hl dJ2_remove_14 rfl rfl ?_
  refine g_iload_n (i := 1) K hl dJ2_remove_15 rfl rfl ?_
  refine x_aald X hF dJ2_remove_16 (fun t4 hF => ?_)
  refine g_astoreR_n (i := 3) K hl dJ2_remove_17 rfl rfl (lkn_rf rfl) (fun ls hl => ?_)
  refine g_aload_n (i := 0) K hl dJ2_remove_18 rfl rfl ?_
  refine g_aloadR_n (i := 2) K hl dJ2_remove_19 rfl rfl ?_
  refine g_iload_n (i := 1) K hl dJ2_remove_20 rfl rfl ?_
  have hlZ := hl
  obtain ⟨q5, hq9, ht_q5, hZ⟩ := nnX_i hF
  cases hq9
  have hF := hZ
  clear hZ
  have hl := hlZ
  clear hlZ
  refine x_callV hF ha rfl (fun t h => x_rV X hl (w_J2_fastRemove _ _ _ _ t h) ht_q5 rfl rfl cpx_J2_fastRemove q1165 rfl rfl rfl rfl (cat_room rfl) dJ2_remove_21) (fun σ6 hF ha => ?_)
  refine g_aloadR_n (i := 3) K hl dJ2_remove_24 rfl rfl ?_
  exact x_aretW X hF (Or.inl ⟨_, rfl⟩) ha dJ2_remove_25

theorem cpx_J2_size : cpV yJ2_size cJ2_size 1 (some .int) 0 := ⟨q512, q513, q149, q514, by decide +kernel⟩
set_option maxHeartbeats 4000000 in
set_option maxRecDepth 100000 in
theorem w_J2_size {l : Launch} {D : va_G} {cx ro : Nat → Nat} {A : Nat → Prop} {TL SL : Nat}  (σ0 : XS) (th : Nat)  (r : Int32) (hF : X_J2_size σ0 th = some r) : xMet l D cx ro A TL SL yJ2_size cJ2_size 1 (some .int) 0 false wx_J2_size [.ref th] σ0 (some (.int r)) σ0 := by
  refine x_of (l9 := [(0, some (.ref th))]) (by decide) (by exact Nat.le_of_ble_eq_true rfl) (by rfl) ?_
  intro p e s m args below meth c ls X K hnm hl hlm
  unfold X_J2_size at hF
  refine g_aload_n (i := 0) K hl dJ2_size_0 rfl rfl ?_
  refine xg_J2_48 X hF dJ2_size_1 (fun t1 hF => ?_)
  exact x_iretP X hF agW.rf dJ2_size_4

theorem cpx_J2_elementData : cpV yJ2_elementData cJ2_elementData 2 (some (.object "java/lang/Object")) 1 := ⟨q634, q635, q149, q636, by decide +kernel⟩
set_option maxHeartbeats 4000000 in
set_option maxRecDepth 100000 in
theorem w_J2_elementData {l : Launch} {D : va_G} {cx ro : Nat → Nat} {A : Nat → Prop} {TL SL : Nat}  (σ0 : XS) (th : Nat) (a0 : Int32) (r : (Option Nat)) (hF : X_J2_elementData σ0 th a0 = some r) : xMet l D cx ro A TL SL yJ2_elementData cJ2_elementData 2 (some (.object "java/lang/Object")) 0 false wx_J2_elementData [.ref th, .int a0] σ0 (some (va_rf r)) σ0 := by
  refine x_of (l9 := [(0, some (.ref th)), (1, some (.int a0))]) (by decide) (by exact Nat.le_of_ble_eq_true rfl) (by rfl) ?_
  intro p e s m args below meth c ls X K hnm hl hlm
  unfold X_J2_elementData at hF
  refine g_aload_n (i := 0) K hl dJ2_elementData_0 rfl rfl ?_
  refine xg_J2_9 X hF dJ2_elementData_1 (fun t1 hF => ?_)
  refine g_iload_n (i := 1) K hl dJ2_elementData_4 rfl rfl ?_
  refine x_aald X hF dJ2_elementData_5 (fun t2 hF => ?_)
  exact x_aretP X hF (Or.inl ⟨_, rfl⟩) agW.rf dJ2_elementData_6

theorem cpx_J2_get : cpV yJ2_get cJ2_get 2 (some (.object "java/lang/Object")) 1 := ⟨q626, q627, q149, q628, by decide +kernel⟩
set_option maxHeartbeats 4000000 in
set_option maxRecDepth 100000 in
theorem w_J2_get {l : Launch} {D : va_G} {cx ro : Nat → Nat} {A : Nat → Prop} {TL SL : Nat}  (σ0 : XS) (th : Nat) (a0 : Int32) (r : (Option Nat)) (hF : X_J2_get σ0 th a0 = some r) : xMet l D cx ro A TL SL yJ2_get cJ2_get 2 (some (.object "java/lang/Object")) 2 false wx_J2_get [.ref th, .int a0] σ0 (some (va_rf r)) σ0 := by
  refine x_of (l9 := [(0, some (.ref th)), (1, some (.int a0))]) (by decide) (by exact Nat.le_of_ble_eq_true rfl) (by rfl) ?_
  intro p e s m args below meth c ls X K hnm hl hlm
  unfold X_J2_get at hF
  refine g_iload_n (i := 1) K hl dJ2_get_0 rfl rfl ?_
  refine g_aload_n (i := 0) K hl dJ2_get_1 rfl rfl ?_
  refine xg_J2_48 X hF dJ2_get_2 (fun t1 hF => ?_)
  refine x_callP (V := Value.int) hF (fun t h => x_rS X hl (w_J9_checkIndex _ _ _ t h) cpx_J9_checkIndex q629 rfl rfl rfl rfl (cat_room rfl) dJ2_get_5) (fun t2 hF => ?_)
  refine g_pop K dJ2_get_8 rfl ?_
  refine g_aload_n (i := 0) K hl dJ2_get_9 rfl rfl ?_
  refine g_iload_n (i := 1) K hl dJ2_get_10 rfl rfl ?_
  have hlZ := hl
  obtain ⟨q3, hq9, ht_q3, hZ⟩ := nnX_i hF
  cases hq9
  have hF := hZ
  clear hZ
  have hl := hlZ
  clear hlZ
  refine x_callP (V := va_rf) hF (fun t h => x_rV X hl (w_J2_elementData _ _ _ t h) ht_q3 rfl rfl cpx_J2_elementData q633 rfl rfl rfl rfl (cat_room rfl) dJ2_get_11) (fun t4 hF => ?_)
  exact x_aretP X hF (Or.inl ⟨_, rfl⟩) agW.rf dJ2_get_14

theorem cpx_X1_keepAt : cpV yX1_keepAt cX1_keepAt 5 none 2 := ⟨q1175, q1176, q146, q1177, by decide +kernel⟩
set_option maxHeartbeats 4000000 in
set_option maxRecDepth 100000 in
theorem w_X1_keepAt {l : Launch} {D : va_G} {cx ro : Nat → Nat} {A : Nat → Prop} {TL SL : Nat} (G : Nat) (σ0 : XS) (th : Nat) (a0 : Option Nat) (a1 : Int32) (r : XS) (hF : X_X1_keepAt G σ0 th a0 a1 = some r) : xMet l D cx ro A TL SL yX1_keepAt cX1_keepAt 5 none 3 false wx_X1_keepAt [.ref th, va_rf a0, .int a1] σ0 none r := by
  refine x_of (l9 := [(0, some (.ref th)), (1, some (va_rf a0)), (2, some (.int a1))]) (by decide) (by cases a0 <;> exact Nat.le_of_ble_eq_true rfl) (by cases a0 <;> rfl) ?_
  intro p e s m args below meth c ls X K hnm hl hlm
  have B111 : ∀ (k111 : XS → Option Nat → Int32 → Int32 → Option XS) (hk111 : (∀ (σ : XS) (x1 : Option Nat) (x2 : Int32) (x3 : Int32) (ls : Array Slot), k111 σ x1 x2 x3 = some r → agW false wx_X1_keepAt σ0 σ → lq ls 5 [(0, some (.ref th)), (1, some (va_rf x1)), (2, some (.int x2)), (3, some (.int x3))] → ZX p l e 3 TL SL s m args below meth c D cx ro A false wx_X1_keepAt σ0 none r σ (F0 m 111 ls []))) (σ : XS) (x1 : Option Nat) (x2 : Int32) (x3 : Int32) (ls : Array Slot), X_X1_keepAt_B111 G th k111 σ x1 x2 x3 = some r → agW false wx_X1_keepAt σ0 σ → lq ls 5 [(0, some (.ref th)), (1, some (va_rf x1)), (2, some (.int x2)), (3, some (.int x3))] → ZX p l e 3 TL SL s m args below meth c D cx ro A false wx_X1_keepAt σ0 none r σ (F0 m 111 ls []) := by
    intro k111 hk111 σ x1 x2 x3 ls hF ha hl
    unfold X_X1_keepAt_B111 at hF
    refine g_iload_n (i := 3) K hl dX1_keepAt_111 rfl rfl ?_
    refine g_aload_n (i := 0) K hl dX1_keepAt_112 rfl rfl ?_
    refine xg_X1_31 X hF dX1_keepAt_113 (fun t1 hF => ?_)
    have hlZ := hl
    obtain ⟨q2, hq9, ht_q2, hZ⟩ := nnX_i hF
    cases hq9
    have hF := hZ
    clear hZ
    have hl := hlZ
    clear hlZ
    refine x_callP (V := Value.int) hF (fun t h => x_rV X hl (w_J2_size _ _  t h) ht_q2 rfl rfl cpx_J2_size q982 rfl rfl rfl rfl (cat_room rfl) dX1_keepAt_116) (fun t3 hF => ?_)
    refine g_icmp_ge (tgt := 207) K hF dX1_keepAt_119 (by decide) (fun hF => ?_) (fun hF => ?_)
    · exact x_vretV X hF ha dX1_keepAt_207
    · refine g_aload_n (i := 0) K hl dX1_keepAt_122 rfl rfl ?_
      refine xg_X1_31 X hF dX1_keepAt_123 (fun t4 hF => ?_)
      refine g_iload_n (i := 3) K hl dX1_keepAt_126 rfl rfl ?_
      have hlZ := hl
      obtain ⟨q5, hq9, ht_q5, hZ⟩ := nnX_i hF
      cases hq9
      have hF := hZ
      clear hZ
      have hl := hlZ
      clear hlZ
      refine x_callP (V := va_rf) hF (fun t h => x_rV X hl (w_J2_get _ _ _ t h) ht_q5 rfl rfl cpx_J2_get q983 rfl rfl rfl rfl (cat_room rfl) dX1_keepAt_127) (fun t6 hF => ?_)
      refine x_cast X hF rfl q989 dX1_keepAt_130 (fun hF => ?_)
      refine g_astoreR (i := 4) K hl dX1_keepAt_133 rfl rfl (fun ls hl => ?_)
      refine g_aloadR_n (i := 1) K hl dX1_keepAt_135 rfl rfl ?_
      refine g_iload_n (i := 2) K hl dX1_keepAt_136 rfl rfl ?_
      refine g_bipush K dX1_keepAt_137 lb_51 ?_
      refine g_iadd K dX1_keepAt_139 ?_
      refine g_iconst K dX1_keepAt_140 lc_3 ?_
      refine g_iload_n (i := 3) K hl dX1_keepAt_141 rfl rfl ?_
      refine g_imul K dX1_keepAt_142 ?_
      refine g_iadd K dX1_keepAt_143 ?_
      refine g_aloadR (i := 4) K hl dX1_keepAt_144 rfl ?_
      refine xg_X1_144 X hF dX1_keepAt_146 (fun t7 hF => ?_)
      refine x_iast X hF ha rfl dX1_keepAt_149 (fun σ8 hF ha => ?_)
      refine g_aloadR_n (i := 1) K hl dX1_keepAt_150 rfl rfl ?_
      refine g_iload_n (i := 2) K hl dX1_keepAt_151 rfl rfl ?_
      refine g_bipush K dX1_keepAt_152 lb_52 ?_
      refine g_iadd K dX1_keepAt_154 ?_
      refine g_iconst K dX1_keepAt_155 lc_3 ?_
      refine g_iload_n (i := 3) K hl dX1_keepAt_156 rfl rfl ?_
      refine g_imul K dX1_keepAt_157 ?_
      refine g_iadd K dX1_keepAt_158 ?_
      refine g_aloadR (i := 4) K hl dX1_keepAt_159 rfl ?_
      refine xg_X1_206 X hF dX1_keepAt_161 (fun t9 hF => ?_)
      refine x_iast X hF ha rfl dX1_keepAt_164 (fun σ10 hF ha => ?_)
      refine g_aloadR_n (i := 1) K hl dX1_keepAt_165 rfl rfl ?_
      refine g_iload_n (i := 2) K hl dX1_keepAt_166 rfl rfl ?_
      refine g_bipush K dX1_keepAt_167 lb_53 ?_
      refine g_iadd K dX1_keepAt_169 ?_
      refine g_iconst K dX1_keepAt_170 lc_3 ?_
      refine g_iload_n (i := 3) K hl dX1_keepAt_171 rfl rfl ?_
      refine g_imul K dX1_keepAt_172 ?_
      refine g_iadd K dX1_keepAt_173 ?_
      refine g_aloadR (i := 4) K hl dX1_keepAt_174 rfl ?_
      refine xg_X1_194 X hF dX1_keepAt_176 (fun t11 hF => ?_)
      refine x_iast X hF ha rfl dX1_keepAt_179 (fun σ12 hF ha => ?_)
      refine g_aloadR (i := 4) K hl dX1_keepAt_180 rfl ?_
      refine xg_X1_203 X hF dX1_keepAt_182 (fun t13 hF => ?_)
      refine g_iconst K dX1_keepAt_185 lc_0 ?_
      refine g_aloadR_n (i := 1) K hl dX1_keepAt_186 rfl rfl ?_
      refine g_iload_n (i := 2) K hl dX1_keepAt_187 rfl rfl ?_
      refine g_bipush K dX1_keepAt_188 lb_63 ?_
      refine g_iadd K dX1_keepAt_190 ?_
      refine g_bipush K dX1_keepAt_191 lb_15 ?_
      refine g_iload_n (i := 3) K hl dX1_keepAt_193 rfl rfl ?_
      refine g_imul K dX1_keepAt_194 ?_
      refine g_iadd K dX1_keepAt_195 ?_
      refine g_bipush K dX1_keepAt_196 lb_15 ?_
      refine x_cpA X hl hF ha rfl q1178 rfl rfl dX1_keepAt_198 (fun σ14 hF ha => ?_)
      refine g_iinc (i := 3) K hl dX1_keepAt_201 rfl lc_1 rfl rfl (fun ls hl => ?_)
      refine g_goto (tgt := 111) K dX1_keepAt_204 (by decide) ?_
      exact hk111 _ _ _ _ ls hF ha (lq_sub hl rfl)
  have L111 : ∀ (n : Nat) (σ : XS) (x1 : Option Nat) (x2 : Int32) (x3 : Int32) (ls : Array Slot), X_X1_keepAt_L111 G th  n σ x1 x2 x3 = some r → agW false wx_X1_keepAt σ0 σ → lq ls 5 [(0, some (.ref th)), (1, some (va_rf x1)), (2, some (.int x2)), (3, some (.int x3))] → ZX p l e 3 TL SL s m args below meth c D cx ro A false wx_X1_keepAt σ0 none r σ (F0 m 111 ls []) := by
    intro  n
    induction n with
    | zero => intro σ x1 x2 x3 ls hF; exact absurd hF (fun h => by cases h)
    | succ n ih => intro σ x1 x2 x3 ls hF ha hl; exact B111  _ ih _ _ _ _ ls hF ha hl
  have B9 : ∀ (k9 : XS → Option Nat → Int32 → Int32 → Option XS) (hk9 : (∀ (σ : XS) (x1 : Option Nat) (x2 : Int32) (x3 : Int32) (ls : Array Slot), k9 σ x1 x2 x3 = some r → agW false wx_X1_keepAt σ0 σ → lq ls 5 [(0, some (.ref th)), (1, some (va_rf x1)), (2, some (.int x2)), (3, some (.int x3))] → ZX p l e 3 TL SL s m args below meth c D cx ro A false wx_X1_keepAt σ0 none r σ (F0 m 9 ls []))) (σ : XS) (x1 : Option Nat) (x2 : Int32) (x3 : Int32) (ls : Array Slot), X_X1_keepAt_B9 G th k9 σ x1 x2 x3 = some r → agW false wx_X1_keepAt σ0 σ → lq ls 5 [(0, some (.ref th)), (1, some (va_rf x1)), (2, some (.int x2)), (3, some (.int x3))] → ZX p l e 3 TL SL s m args below meth c D cx ro A false wx_X1_keepAt σ0 none r σ (F0 m 9 ls []) := by
    intro k9 hk9 σ x1 x2 x3 ls hF ha hl
    unfold X_X1_keepAt_B9 at hF
    refine g_iload_n (i := 3) K hl dX1_keepAt_9 rfl rfl ?_
    refine g_aload_n (i := 0) K hl dX1_keepAt_10 rfl rfl ?_
    refine xg_X1_28 X hF dX1_keepAt_11 (fun t1 hF => ?_)
    have hlZ := hl
    obtain ⟨q2, hq9, ht_q2, hZ⟩ := nnX_i hF
    cases hq9
    have hF := hZ
    clear hZ
    have hl := hlZ
    clear hlZ
    refine x_callP (V := Value.int) hF (fun t h => x_rV X hl (w_J2_size _ _  t h) ht_q2 rfl rfl cpx_J2_size q982 rfl rfl rfl rfl (cat_room rfl) dX1_keepAt_14) (fun t3 hF => ?_)
    refine g_icmp_ge (tgt := 109) K hF dX1_keepAt_17 (by decide) (fun hF => ?_) (fun hF => ?_)
    · refine g_iconst K dX1_keepAt_109 lc_0 ?_
      refine g_istore_n (i := 3) K hl dX1_keepAt_110 rfl rfl rfl (fun ls hl => ?_)
      exact L111  G _ _ _ _ ls hF ha (lq_sub hl rfl)
    · refine g_aload_n (i := 0) K hl dX1_keepAt_20 rfl rfl ?_
      refine xg_X1_28 X hF dX1_keepAt_21 (fun t4 hF => ?_)
      refine g_iload_n (i := 3) K hl dX1_keepAt_24 rfl rfl ?_
      have hlZ := hl
      obtain ⟨q5, hq9, ht_q5, hZ⟩ := nnX_i hF
      cases hq9
      have hF := hZ
      clear hZ
      have hl := hlZ
      clear hlZ
      refine x_callP (V := va_rf) hF (fun t h => x_rV X hl (w_J2_get _ _ _ t h) ht_q5 rfl rfl cpx_J2_get q983 rfl rfl rfl rfl (cat_room rfl) dX1_keepAt_25) (fun t6 hF => ?_)
      refine x_cast X hF rfl q984 dX1_keepAt_28 (fun hF => ?_)
      refine g_astoreR (i := 4) K hl dX1_keepAt_31 rfl rfl (fun ls hl => ?_)
      refine g_aloadR_n (i := 1) K hl dX1_keepAt_33 rfl rfl ?_
      refine g_iload_n (i := 2) K hl dX1_keepAt_34 rfl rfl ?_
      refine g_iconst K dX1_keepAt_35 lc_1 ?_
      refine g_iadd K dX1_keepAt_36 ?_
      refine g_iconst K dX1_keepAt_37 lc_5 ?_
      refine g_iload_n (i := 3) K hl dX1_keepAt_38 rfl rfl ?_
      refine g_imul K dX1_keepAt_39 ?_
      refine g_iadd K dX1_keepAt_40 ?_
      refine g_aloadR (i := 4) K hl dX1_keepAt_41 rfl ?_
      refine xg_X1_76 X hF dX1_keepAt_43 (fun t7 hF => ?_)
      refine x_iast X hF ha rfl dX1_keepAt_46 (fun σ8 hF ha => ?_)
      refine g_aloadR_n (i := 1) K hl dX1_keepAt_47 rfl rfl ?_
      refine g_iload_n (i := 2) K hl dX1_keepAt_48 rfl rfl ?_
      refine g_iconst K dX1_keepAt_49 lc_2 ?_
      refine g_iadd K dX1_keepAt_50 ?_
      refine g_iconst K dX1_keepAt_51 lc_5 ?_
      refine g_iload_n (i := 3) K hl dX1_keepAt_52 rfl rfl ?_
      refine g_imul K dX1_keepAt_53 ?_
      refine g_iadd K dX1_keepAt_54 ?_
      refine g_aloadR (i := 4) K hl dX1_keepAt_55 rfl ?_
      refine xg_X1_79 X hF dX1_keepAt_57 (fun t9 hF => ?_)
      refine x_iast X hF ha rfl dX1_keepAt_60 (fun σ10 hF ha => ?_)
      refine g_aloadR_n (i := 1) K hl dX1_keepAt_61 rfl rfl ?_
      refine g_iload_n (i := 2) K hl dX1_keepAt_62 rfl rfl ?_
      refine g_iconst K dX1_keepAt_63 lc_3 ?_
      refine g_iadd K dX1_keepAt_64 ?_
      refine g_iconst K dX1_keepAt_65 lc_5 ?_
      refine g_iload_n (i := 3) K hl dX1_keepAt_66 rfl rfl ?_
      refine g_imul K dX1_keepAt_67 ?_
      refine g_iadd K dX1_keepAt_68 ?_
      refine g_aloadR (i := 4) K hl dX1_keepAt_69 rfl ?_
      refine xg_X1_73 X hF dX1_keepAt_71 (fun t11 hF => ?_)
      refine x_iast X hF ha rfl dX1_keepAt_74 (fun σ12 hF ha => ?_)
      refine g_aloadR_n (i := 1) K hl dX1_keepAt_75 rfl rfl ?_
      refine g_iload_n (i := 2) K hl dX1_keepAt_76 rfl rfl ?_
      refine g_iconst K dX1_keepAt_77 lc_4 ?_
      refine g_iadd K dX1_keepAt_78 ?_
      refine g_iconst K dX1_keepAt_79 lc_5 ?_
      refine g_iload_n (i := 3) K hl dX1_keepAt_80 rfl rfl ?_
      refine g_imul K dX1_keepAt_81 ?_
      refine g_iadd K dX1_keepAt_82 ?_
      refine g_aloadR (i := 4) K hl dX1_keepAt_83 rfl ?_
      refine xg_X1_138 X hF dX1_keepAt_85 (fun t13 hF => ?_)
      refine x_iast X hF ha rfl dX1_keepAt_88 (fun σ14 hF ha => ?_)
      refine g_aloadR_n (i := 1) K hl dX1_keepAt_89 rfl rfl ?_
      refine g_iload_n (i := 2) K hl dX1_keepAt_90 rfl rfl ?_
      refine g_iconst K dX1_keepAt_91 lc_5 ?_
      refine g_iadd K dX1_keepAt_92 ?_
      refine g_iconst K dX1_keepAt_93 lc_5 ?_
      refine g_iload_n (i := 3) K hl dX1_keepAt_94 rfl rfl ?_
      refine g_imul K dX1_keepAt_95 ?_
      refine g_iadd K dX1_keepAt_96 ?_
      refine g_aloadR (i := 4) K hl dX1_keepAt_97 rfl ?_
      refine xg_X1_122 X hF dX1_keepAt_99 (fun t15 hF => ?_)
      refine x_iast X hF ha rfl dX1_keepAt_102 (fun σ16 hF ha => ?_)
      refine g_iinc (i := 3) K hl dX1_keepAt_103 rfl lc_1 rfl rfl (fun ls hl => ?_)
      refine g_goto (tgt := 9) K dX1_keepAt_106 (by decide) ?_
      exact hk9 _ _ _ _ ls hF ha (lq_sub hl rfl)
  have L9 : ∀ (n : Nat) (σ : XS) (x1 : Option Nat) (x2 : Int32) (x3 : Int32) (ls : Array Slot), X_X1_keepAt_L9 G th  n σ x1 x2 x3 = some r → agW false wx_X1_keepAt σ0 σ → lq ls 5 [(0, some (.ref th)), (1, some (va_rf x1)), (2, some (.int x2)), (3, some (.int x3))] → ZX p l e 3 TL SL s m args below meth c D cx ro A false wx_X1_keepAt σ0 none r σ (F0 m 9 ls []) := by
    intro  n
    induction n with
    | zero => intro σ x1 x2 x3 ls hF; exact absurd hF (fun h => by cases h)
    | succ n ih => intro σ x1 x2 x3 ls hF ha hl; exact B9  _ ih _ _ _ _ ls hF ha hl
  have ha : agW false wx_X1_keepAt σ0 σ0 := agW.rf
  unfold X_X1_keepAt at hF
  refine g_aloadR_n (i := 1) K hl dX1_keepAt_0 rfl rfl ?_
  refine g_iload_n (i := 2) K hl dX1_keepAt_1 rfl rfl ?_
  refine g_aload_n (i := 0) K hl dX1_keepAt_2 rfl rfl ?_
  refine xg_X1_70 X hF dX1_keepAt_3 (fun t1 hF => ?_)
  refine x_iast X hF ha rfl dX1_keepAt_6 (fun σ2 hF ha => ?_)
  refine g_iconst K dX1_keepAt_7 lc_0 ?_
  refine g_istore_n (i := 3) K hl dX1_keepAt_8 rfl rfl rfl (fun ls hl => ?_)
  exact L9  G _ _ _ _ ls hF ha (lq_sub hl rfl)

theorem cpx_X1_keep : cpV yX1_keep cX1_keep 2 (some (.array .int)) 0 := ⟨q1171, q1172, q146, q1173, by decide +kernel⟩
set_option maxHeartbeats 4000000 in
set_option maxRecDepth 100000 in
theorem w_X1_keep {l : Launch} {D : va_G} {cx ro : Nat → Nat} {A : Nat → Prop} {TL SL : Nat} (G : Nat) (σ0 : XS) (th : Nat)  (r : (Option Nat × XS)) (hF : X_X1_keep TL SL G σ0 th = some r) : xMet l D cx ro A TL SL yX1_keep cX1_keep 2 (some (.array .int)) 4 true wx_X1_keep [.ref th] σ0 (some (va_rf r.1)) r.2 := by
  refine x_of (l9 := [(0, some (.ref th))]) (by decide) (by exact Nat.le_of_ble_eq_true rfl) (by rfl) ?_
  intro p e s m args below meth c ls X K hnm hl hlm
  have ha : agW true wx_X1_keep σ0 σ0 := agW.rf
  unfold X_X1_keep at hF
  refine g_bipush K dX1_keep_0 lb_123 ?_
  refine x_newA0 X hF ha dX1_keep_2 (fun q1 σ2 hF ha => ?_)
  refine g_astore_n (i := 1) K hl dX1_keep_4 rfl rfl rfl (fun ls hl => ?_)
  refine g_aload_n (i := 0) K hl dX1_keep_5 rfl rfl ?_
  refine g_aload_n (i := 1) K hl dX1_keep_6 rfl rfl ?_
  refine g_iconst K dX1_keep_7 lc_0 ?_
  have hlZ := hl
  obtain ⟨q3, hq9, ht_q3, hZ⟩ := nnX_i hF
  cases hq9
  have hF := hZ
  clear hZ
  have hl := hlZ
  clear hlZ
  refine x_callV hF ha rfl (fun t h => x_rV X hl (w_X1_keepAt G _ _ _ _ t h) ht_q3 rfl rfl cpx_X1_keepAt q1174 rfl rfl rfl rfl (cat_room rfl) dX1_keep_8) (fun σ4 hF ha => ?_)
  refine g_aload_n (i := 1) K hl dX1_keep_11 rfl rfl ?_
  exact x_aretW X hF (Or.inr ⟨_, rfl⟩) ha dX1_keep_12

theorem cpx_X0_keepAct : cpV yX0_keepAct cX0_keepAct 1 none 0 := ⟨q1159, qs43, q145, q1160, by decide +kernel⟩
set_option maxHeartbeats 4000000 in
set_option maxRecDepth 100000 in
theorem w_X0_keepAct {l : Launch} {D : va_G} {cx ro : Nat → Nat} {A : Nat → Prop} {TL SL : Nat} (G : Nat) (σ0 : XS) (th : Nat)  (r : XS) (hF : X_X0_keepAct TL SL ro G σ0 th = some r) : xMet l D cx ro A TL SL yX0_keepAct cX0_keepAct 1 none 10 true wx_X0_keepAct [.ref th] σ0 none r := by
  refine x_of (l9 := [(0, some (.ref th))]) (by decide) (by exact Nat.le_of_ble_eq_true rfl) (by rfl) ?_
  intro p e s m args below meth c ls X K hnm hl hlm
  have L21 : ∀ (σ : XS) (ls : Array Slot), X_X0_keepAct_L21 TL SL ro G th  σ = some r → agW true wx_X0_keepAct σ0 σ → lq ls 1 [(0, some (.ref th))] → ZX p l e 10 TL SL s m args below meth c D cx ro A true wx_X0_keepAct σ0 none r σ (F0 m 21 ls []) := by
    intro  σ ls hF ha hl
    unfold X_X0_keepAct_L21 at hF
    refine g_aload_n (i := 0) K hl dX0_keepAct_21 rfl rfl ?_
    refine xg_X0_27 X hF dX0_keepAct_22 (fun t1 hF => ?_)
    refine x_newO X ⟨rfl, rfl⟩ hF ⟨_, rfl⟩ q292 q294 q151 ha dX0_keepAct_25 (fun q2 σ3 hF ha => ?_)
    refine g_dup K dX0_keepAct_28 rfl ?_
    refine g_aload_n (i := 0) K hl dX0_keepAct_29 rfl rfl ?_
    refine xg_X0_12 X hF dX0_keepAct_30 (fun t4 hF => ?_)
    have hlZ := hl
    obtain ⟨q5, hq9, ht_q5, hZ⟩ := nnX_i hF
    cases hq9
    have hF := hZ
    clear hZ
    have hl := hlZ
    clear hlZ
    refine x_callW (V := va_rf) hF ha rfl (fun t h => x_rV X hl (w_X1_keep G _ _  t h) ht_q5 rfl rfl cpx_X1_keep q1170 rfl rfl rfl rfl (cat_room rfl) dX0_keepAct_33) (fun t6 σ7 hF ha => ?_)
    have hlZ := hl
    obtain ⟨q8, hq9, hZ⟩ := nnO_i hF
    cases hq9
    have hF := hZ
    clear hZ
    have hl := hlZ
    clear hlZ
    refine x_callV hF ha rfl (fun t h => x_rI X hl (w_X3_init _ _ _ t h) cpx_X3_init q295 rfl rfl rfl rfl (cat_room rfl) dX0_keepAct_36) (fun σ9 hF ha => ?_)
    have hlZ := hl
    obtain ⟨q10, hq9, ht_q10, hZ⟩ := nnX_i hF
    cases hq9
    have hF := hZ
    clear hZ
    have hl := hlZ
    clear hlZ
    refine x_callW (V := Value.int) hF ha rfl (fun t h => x_rV X hl (w_J2_add _ _ _ t h) ht_q10 rfl rfl cpx_J2_add q1179 rfl rfl rfl rfl (cat_room rfl) dX0_keepAct_39) (fun t11 σ12 hF ha => ?_)
    refine g_pop K dX0_keepAct_42 rfl ?_
    refine g_aload_n (i := 0) K hl dX0_keepAct_43 rfl rfl ?_
    refine xg_X0_31 X hF dX0_keepAct_44 (fun t13 hF => ?_)
    have hlZ := hl
    obtain ⟨q14, hq9, ht_q14, hZ⟩ := nnX_i hF
    cases hq9
    have hF := hZ
    clear hZ
    have hl := hlZ
    clear hlZ
    refine x_callV hF ha rfl (fun t h => x_rV X hl (w_J2_clear G _ _  t h) ht_q14 rfl rfl cpx_J2_clear q309 rfl rfl rfl rfl (cat_room rfl) dX0_keepAct_47) (fun σ15 hF ha => ?_)
    exact x_vretV X hF ha dX0_keepAct_50
  have ha : agW true wx_X0_keepAct σ0 σ0 := agW.rf
  unfold X_X0_keepAct at hF
  refine g_aload_n (i := 0) K hl dX0_keepAct_0 rfl rfl ?_
  refine xg_X0_27 X hF dX0_keepAct_1 (fun t1 hF => ?_)
  have hlZ := hl
  obtain ⟨q2, hq9, ht_q2, hZ⟩ := nnX_i hF
  cases hq9
  have hF := hZ
  clear hZ
  have hl := hlZ
  clear hlZ
  refine x_callP (V := Value.int) hF (fun t h => x_rV X hl (w_J2_size _ _  t h) ht_q2 rfl rfl cpx_J2_size q994 rfl rfl rfl rfl (cat_room rfl) dX0_keepAct_4) (fun t3 hF => ?_)
  refine g_bipush K dX0_keepAct_7 lb_40 ?_
  refine g_icmp_ne (tgt := 21) K hF dX0_keepAct_9 (by decide) (fun hF => ?_) (fun hF => ?_)
  · exact L21  _ ls hF ha (lq_sub hl rfl)
  · refine g_aload_n (i := 0) K hl dX0_keepAct_12 rfl rfl ?_
    refine xg_X0_27 X hF dX0_keepAct_13 (fun t4 hF => ?_)
    refine g_iconst K dX0_keepAct_16 lc_0 ?_
    have hlZ := hl
    obtain ⟨q5, hq9, ht_q5, hZ⟩ := nnX_i hF
    cases hq9
    have hF := hZ
    clear hZ
    have hl := hlZ
    clear hlZ
    refine x_callW (V := va_rf) hF ha rfl (fun t h => x_rV X hl (w_J2_remove _ _ _ t h) ht_q5 rfl rfl cpx_J2_remove q1161 rfl rfl rfl rfl (cat_room rfl) dX0_keepAct_17) (fun t6 σ7 hF ha => ?_)
    refine g_pop K dX0_keepAct_20 (rf_cat _) ?_
    exact L21  _ ls hF ha (lq_sub hl rfl)

theorem cpx_X1_bringAt : cpV yX1_bringAt cX1_bringAt 5 none 2 := ⟨q1288, q1289, q146, q1290, by decide +kernel⟩
set_option maxHeartbeats 4000000 in
set_option maxRecDepth 100000 in
theorem w_X1_bringAt {l : Launch} {D : va_G} {cx ro : Nat → Nat} {A : Nat → Prop} {TL SL : Nat} (G : Nat) (σ0 : XS) (th : Nat) (a0 : Option Nat) (a1 : Int32) (r : XS) (hF : X_X1_bringAt G σ0 th a0 a1 = some r) : xMet l D cx ro A TL SL yX1_bringAt cX1_bringAt 5 none 3 false wx_X1_bringAt [.ref th, va_rf a0, .int a1] σ0 none r := by
  refine x_of (l9 := [(0, some (.ref th)), (1, some (va_rf a0)), (2, some (.int a1))]) (by decide) (by cases a0 <;> exact Nat.le_of_ble_eq_true rfl) (by cases a0 <;> rfl) ?_
  intro p e s m args below meth c ls X K hnm hl hlm
  have B111 : ∀ (k111 : XS → Option Nat → Int32 → Int32 → Option XS) (hk111 : (∀ (σ : XS) (x1 : Option Nat) (x2 : Int32) (x3 : Int32) (ls : Array Slot), k111 σ x1 x2 x3 = some r → agW false wx_X1_bringAt σ0 σ → lq ls 5 [(0, some (.ref th)), (1, some (va_rf x1)), (2, some (.int x2)), (3, some (.int x3))] → ZX p l e 3 TL SL s m args below meth c D cx ro A false wx_X1_bringAt σ0 none r σ (F0 m 111 ls []))) (σ : XS) (x1 : Option Nat) (x2 : Int32) (x3 : Int32) (ls : Array Slot), X_X1_bringAt_B111 G th k111 σ x1 x2 x3 = some r → agW false wx_X1_bringAt σ0 σ → lq ls 5 [(0, some (.ref th)), (1, some (va_rf x1)), (2, some (.int x2)), (3, some (.int x3))] → ZX p l e 3 TL SL s m args below meth c D cx ro A false wx_X1_bringAt σ0 none r σ (F0 m 111 ls []) := by
    intro k111 hk111 σ x1 x2 x3 ls hF ha hl
    unfold X_X1_bringAt_B111 at hF
    refine g_iload_n (i := 3) K hl dX1_bringAt_111 rfl rfl ?_
    refine g_aload_n (i := 0) K hl dX1_bringAt_112 rfl rfl ?_
    refine xg_X1_31 X hF dX1_bringAt_113 (fun t1 hF => ?_)
    have hlZ := hl
    obtain ⟨q2, hq9, ht_q2, hZ⟩ := nnX_i hF
    cases hq9
    have hF := hZ
    clear hZ
    have hl := hlZ
    clear hlZ
    refine x_callP (V := Value.int) hF (fun t h => x_rV X hl (w_J2_size _ _  t h) ht_q2 rfl rfl cpx_J2_size q982 rfl rfl rfl rfl (cat_room rfl) dX1_bringAt_116) (fun t3 hF => ?_)
    refine g_icmp_ge (tgt := 207) K hF dX1_bringAt_119 (by decide) (fun hF => ?_) (fun hF => ?_)
    · exact x_vretV X hF ha dX1_bringAt_207
    · refine g_aload_n (i := 0) K hl dX1_bringAt_122 rfl rfl ?_
      refine xg_X1_31 X hF dX1_bringAt_123 (fun t4 hF => ?_)
      refine g_iload_n (i := 3) K hl dX1_bringAt_126 rfl rfl ?_
      have hlZ := hl
      obtain ⟨q5, hq9, ht_q5, hZ⟩ := nnX_i hF
      cases hq9
      have hF := hZ
      clear hZ
      have hl := hlZ
      clear hlZ
      refine x_callP (V := va_rf) hF (fun t h => x_rV X hl (w_J2_get _ _ _ t h) ht_q5 rfl rfl cpx_J2_get q983 rfl rfl rfl rfl (cat_room rfl) dX1_bringAt_127) (fun t6 hF => ?_)
      refine x_cast X hF rfl q989 dX1_bringAt_130 (fun hF => ?_)
      refine g_astoreR (i := 4) K hl dX1_bringAt_133 rfl rfl (fun ls hl => ?_)
      refine g_aloadR (i := 4) K hl dX1_bringAt_135 rfl ?_
      refine g_aloadR_n (i := 1) K hl dX1_bringAt_137 rfl rfl ?_
      refine g_iload_n (i := 2) K hl dX1_bringAt_138 rfl rfl ?_
      refine g_bipush K dX1_bringAt_139 lb_51 ?_
      refine g_iadd K dX1_bringAt_141 ?_
      refine g_iconst K dX1_bringAt_142 lc_3 ?_
      refine g_iload_n (i := 3) K hl dX1_bringAt_143 rfl rfl ?_
      refine g_imul K dX1_bringAt_144 ?_
      refine g_iadd K dX1_bringAt_145 ?_
      refine x_iald X hF dX1_bringAt_146 (fun t7 hF => ?_)
      refine xp_X1_144 X hF ha rfl dX1_bringAt_147 (fun σ8 hF ha => ?_)
      refine g_aloadR (i := 4) K hl dX1_bringAt_150 rfl ?_
      refine g_aloadR_n (i := 1) K hl dX1_bringAt_152 rfl rfl ?_
      refine g_iload_n (i := 2) K hl dX1_bringAt_153 rfl rfl ?_
      refine g_bipush K dX1_bringAt_154 lb_52 ?_
      refine g_iadd K dX1_bringAt_156 ?_
      refine g_iconst K dX1_bringAt_157 lc_3 ?_
      refine g_iload_n (i := 3) K hl dX1_bringAt_158 rfl rfl ?_
      refine g_imul K dX1_bringAt_159 ?_
      refine g_iadd K dX1_bringAt_160 ?_
      refine x_iald X hF dX1_bringAt_161 (fun t9 hF => ?_)
      refine xp_X1_206 X hF ha rfl dX1_bringAt_162 (fun σ10 hF ha => ?_)
      refine g_aloadR (i := 4) K hl dX1_bringAt_165 rfl ?_
      refine g_aloadR_n (i := 1) K hl dX1_bringAt_167 rfl rfl ?_
      refine g_iload_n (i := 2) K hl dX1_bringAt_168 rfl rfl ?_
      refine g_bipush K dX1_bringAt_169 lb_53 ?_
      refine g_iadd K dX1_bringAt_171 ?_
      refine g_iconst K dX1_bringAt_172 lc_3 ?_
      refine g_iload_n (i := 3) K hl dX1_bringAt_173 rfl rfl ?_
      refine g_imul K dX1_bringAt_174 ?_
      refine g_iadd K dX1_bringAt_175 ?_
      refine x_iald X hF dX1_bringAt_176 (fun t11 hF => ?_)
      refine xp_X1_194 X hF ha rfl dX1_bringAt_177 (fun σ12 hF ha => ?_)
      refine g_aloadR_n (i := 1) K hl dX1_bringAt_180 rfl rfl ?_
      refine g_iload_n (i := 2) K hl dX1_bringAt_181 rfl rfl ?_
      refine g_bipush K dX1_bringAt_182 lb_63 ?_
      refine g_iadd K dX1_bringAt_184 ?_
      refine g_bipush K dX1_bringAt_185 lb_15 ?_
      refine g_iload_n (i := 3) K hl dX1_bringAt_187 rfl rfl ?_
      refine g_imul K dX1_bringAt_188 ?_
      refine g_iadd K dX1_bringAt_189 ?_
      refine g_aloadR (i := 4) K hl dX1_bringAt_190 rfl ?_
      refine xg_X1_203 X hF dX1_bringAt_192 (fun t13 hF => ?_)
      refine g_iconst K dX1_bringAt_195 lc_0 ?_
      refine g_bipush K dX1_bringAt_196 lb_15 ?_
      refine x_cpA X hl hF ha rfl q1178 rfl rfl dX1_bringAt_198 (fun σ14 hF ha => ?_)
      refine g_iinc (i := 3) K hl dX1_bringAt_201 rfl lc_1 rfl rfl (fun ls hl => ?_)
      refine g_goto (tgt := 111) K dX1_bringAt_204 (by decide) ?_
      exact hk111 _ _ _ _ ls hF ha (lq_sub hl rfl)
  have L111 : ∀ (n : Nat) (σ : XS) (x1 : Option Nat) (x2 : Int32) (x3 : Int32) (ls : Array Slot), X_X1_bringAt_L111 G th  n σ x1 x2 x3 = some r → agW false wx_X1_bringAt σ0 σ → lq ls 5 [(0, some (.ref th)), (1, some (va_rf x1)), (2, some (.int x2)), (3, some (.int x3))] → ZX p l e 3 TL SL s m args below meth c D cx ro A false wx_X1_bringAt σ0 none r σ (F0 m 111 ls []) := by
    intro  n
    induction n with
    | zero => intro σ x1 x2 x3 ls hF; exact absurd hF (fun h => by cases h)
    | succ n ih => intro σ x1 x2 x3 ls hF ha hl; exact B111  _ ih _ _ _ _ ls hF ha hl
  have B9 : ∀ (k9 : XS → Option Nat → Int32 → Int32 → Option XS) (hk9 : (∀ (σ : XS) (x1 : Option Nat) (x2 : Int32) (x3 : Int32) (ls : Array Slot), k9 σ x1 x2 x3 = some r → agW false wx_X1_bringAt σ0 σ → lq ls 5 [(0, some (.ref th)), (1, some (va_rf x1)), (2, some (.int x2)), (3, some (.int x3))] → ZX p l e 3 TL SL s m args below meth c D cx ro A false wx_X1_bringAt σ0 none r σ (F0 m 9 ls []))) (σ : XS) (x1 : Option Nat) (x2 : Int32) (x3 : Int32) (ls : Array Slot), X_X1_bringAt_B9 G th k9 σ x1 x2 x3 = some r → agW false wx_X1_bringAt σ0 σ → lq ls 5 [(0, some (.ref th)), (1, some (va_rf x1)), (2, some (.int x2)), (3, some (.int x3))] → ZX p l e 3 TL SL s m args below meth c D cx ro A false wx_X1_bringAt σ0 none r σ (F0 m 9 ls []) := by
    intro k9 hk9 σ x1 x2 x3 ls hF ha hl
    unfold X_X1_bringAt_B9 at hF
    refine g_iload_n (i := 3) K hl dX1_bringAt_9 rfl rfl ?_
    refine g_aload_n (i := 0) K hl dX1_bringAt_10 rfl rfl ?_
    refine xg_X1_28 X hF dX1_bringAt_11 (fun t1 hF => ?_)
    have hlZ := hl
    obtain ⟨q2, hq9, ht_q2, hZ⟩ := nnX_i hF
    cases hq9
    have hF := hZ
    clear hZ
    have hl := hlZ
    clear hlZ
    refine x_callP (V := Value.int) hF (fun t h => x_rV X hl (w_J2_size _ _  t h) ht_q2 rfl rfl cpx_J2_size q982 rfl rfl rfl rfl (cat_room rfl) dX1_bringAt_14) (fun t3 hF => ?_)
    refine g_icmp_ge (tgt := 109) K hF dX1_bringAt_17 (by decide) (fun hF => ?_) (fun hF => ?_)
    · refine g_iconst K dX1_bringAt_109 lc_0 ?_
      refine g_istore_n (i := 3) K hl dX1_bringAt_110 rfl rfl rfl (fun ls hl => ?_)
      exact L111  G _ _ _ _ ls hF ha (lq_sub hl rfl)
    · refine g_aload_n (i := 0) K hl dX1_bringAt_20 rfl rfl ?_
      refine xg_X1_28 X hF dX1_bringAt_21 (fun t4 hF => ?_)
      refine g_iload_n (i := 3) K hl dX1_bringAt_24 rfl rfl ?_
      have hlZ := hl
      obtain ⟨q5, hq9, ht_q5, hZ⟩ := nnX_i hF
      cases hq9
      have hF := hZ
      clear hZ
      have hl := hlZ
      clear hlZ
      refine x_callP (V := va_rf) hF (fun t h => x_rV X hl (w_J2_get _ _ _ t h) ht_q5 rfl rfl cpx_J2_get q983 rfl rfl rfl rfl (cat_room rfl) dX1_bringAt_25) (fun t6 hF => ?_)
      refine x_cast X hF rfl q984 dX1_bringAt_28 (fun hF => ?_)
      refine g_astoreR (i := 4) K hl dX1_bringAt_31 rfl rfl (fun ls hl => ?_)
      refine g_aloadR (i := 4) K hl dX1_bringAt_33 rfl ?_
      refine g_aloadR_n (i := 1) K hl dX1_bringAt_35 rfl rfl ?_
      refine g_iload_n (i := 2) K hl dX1_bringAt_36 rfl rfl ?_
      refine g_iconst K dX1_bringAt_37 lc_1 ?_
      refine g_iadd K dX1_bringAt_38 ?_
      refine g_iconst K dX1_bringAt_39 lc_5 ?_
      refine g_iload_n (i := 3) K hl dX1_bringAt_40 rfl rfl ?_
      refine g_imul K dX1_bringAt_41 ?_
      refine g_iadd K dX1_bringAt_42 ?_
      refine x_iald X hF dX1_bringAt_43 (fun t7 hF => ?_)
      refine xp_X1_76 X hF ha rfl dX1_bringAt_44 (fun σ8 hF ha => ?_)
      refine g_aloadR (i := 4) K hl dX1_bringAt_47 rfl ?_
      refine g_aloadR_n (i := 1) K hl dX1_bringAt_49 rfl rfl ?_
      refine g_iload_n (i := 2) K hl dX1_bringAt_50 rfl rfl ?_
      refine g_iconst K dX1_bringAt_51 lc_2 ?_
      refine g_iadd K dX1_bringAt_52 ?_
      refine g_iconst K dX1_bringAt_53 lc_5 ?_
      refine g_iload_n (i := 3) K hl dX1_bringAt_54 rfl rfl ?_
      refine g_imul K dX1_bringAt_55 ?_
      refine g_iadd K dX1_bringAt_56 ?_
      refine x_iald X hF dX1_bringAt_57 (fun t9 hF => ?_)
      refine xp_X1_79 X hF ha rfl dX1_bringAt_58 (fun σ10 hF ha => ?_)
      refine g_aloadR (i := 4) K hl dX1_bringAt_61 rfl ?_
      refine g_aloadR_n (i := 1) K hl dX1_bringAt_63 rfl rfl ?_
      refine g_iload_n (i := 2) K hl dX1_bringAt_64 rfl rfl ?_
      refine g_iconst K dX1_bringAt_65 lc_3 ?_
      refine g_iadd K dX1_bringAt_66 ?_
      refine g_iconst K dX1_bringAt_67 lc_5 ?_
      refine g_iload_n (i := 3) K hl dX1_bringAt_68 rfl rfl ?_
      refine g_imul K dX1_bringAt_69 ?_
      refine g_iadd K dX1_bringAt_70 ?_
      refine x_iald X hF dX1_bringAt_71 (fun t11 hF => ?_)
      refine xp_X1_73 X hF ha rfl dX1_bringAt_72 (fun σ12 hF ha => ?_)
      refine g_aloadR (i := 4) K hl dX1_bringAt_75 rfl ?_
      refine g_aloadR_n (i := 1) K hl dX1_bringAt_77 rfl rfl ?_
      refine g_iload_n (i := 2) K hl dX1_bringAt_78 rfl rfl ?_
      refine g_iconst K dX1_bringAt_79 lc_4 ?_
      refine g_iadd K dX1_bringAt_80 ?_
      refine g_iconst K dX1_bringAt_81 lc_5 ?_
      refine g_iload_n (i := 3) K hl dX1_bringAt_82 rfl rfl ?_
      refine g_imul K dX1_bringAt_83 ?_
      refine g_iadd K dX1_bringAt_84 ?_
      refine x_iald X hF dX1_bringAt_85 (fun t13 hF => ?_)
      refine xp_X1_138 X hF ha rfl dX1_bringAt_86 (fun σ14 hF ha => ?_)
      refine g_aloadR (i := 4) K hl dX1_bringAt_89 rfl ?_
      refine g_aloadR_n (i := 1) K hl dX1_bringAt_91 rfl rfl ?_
      refine g_iload_n (i := 2) K hl dX1_bringAt_92 rfl rfl ?_
      refine g_iconst K dX1_bringAt_93 lc_5 ?_
      refine g_iadd K dX1_bringAt_94 ?_
      refine g_iconst K dX1_bringAt_95 lc_5 ?_
      refine g_iload_n (i := 3) K hl dX1_bringAt_96 rfl rfl ?_
      refine g_imul K dX1_bringAt_97 ?_
      refine g_iadd K dX1_bringAt_98 ?_
      refine x_iald X hF dX1_bringAt_99 (fun t15 hF => ?_)
      refine xp_X1_122 X hF ha rfl dX1_bringAt_100 (fun σ16 hF ha => ?_)
      refine g_iinc (i := 3) K hl dX1_bringAt_103 rfl lc_1 rfl rfl (fun ls hl => ?_)
      refine g_goto (tgt := 9) K dX1_bringAt_106 (by decide) ?_
      exact hk9 _ _ _ _ ls hF ha (lq_sub hl rfl)
  have L9 : ∀ (n : Nat) (σ : XS) (x1 : Option Nat) (x2 : Int32) (x3 : Int32) (ls : Array Slot), X_X1_bringAt_L9 G th  n σ x1 x2 x3 = some r → agW false wx_X1_bringAt σ0 σ → lq ls 5 [(0, some (.ref th)), (1, some (va_rf x1)), (2, some (.int x2)), (3, some (.int x3))] → ZX p l e 3 TL SL s m args below meth c D cx ro A false wx_X1_bringAt σ0 none r σ (F0 m 9 ls []) := by
    intro  n
    induction n with
    | zero => intro σ x1 x2 x3 ls hF; exact absurd hF (fun h => by cases h)
    | succ n ih => intro σ x1 x2 x3 ls hF ha hl; exact B9  _ ih _ _ _ _ ls hF ha hl
  have ha : agW false wx_X1_bringAt σ0 σ0 := agW.rf
  unfold X_X1_bringAt at hF
  refine g_aload_n (i := 0) K hl dX1_bringAt_0 rfl rfl ?_
  refine g_aloadR_n (i := 1) K hl dX1_bringAt_1 rfl rfl ?_
  refine g_iload_n (i := 2) K hl dX1_bringAt_2 rfl rfl ?_
  refine x_iald X hF dX1_bringAt_3 (fun t1 hF => ?_)
  refine xp_X1_70 X hF ha rfl dX1_bringAt_4 (fun σ2 hF ha => ?_)
  refine g_iconst K dX1_bringAt_7 lc_0 ?_
  refine g_istore_n (i := 3) K hl dX1_bringAt_8 rfl rfl rfl (fun ls hl => ?_)
  exact L9  G _ _ _ _ ls hF ha (lq_sub hl rfl)

theorem cpx_X1_bring : cpV yX1_bring cX1_bring 2 none 1 := ⟨q1284, q1285, q146, q1286, by decide +kernel⟩
set_option maxHeartbeats 4000000 in
set_option maxRecDepth 100000 in
theorem w_X1_bring {l : Launch} {D : va_G} {cx ro : Nat → Nat} {A : Nat → Prop} {TL SL : Nat} (G : Nat) (σ0 : XS) (th : Nat) (a0 : Option Nat) (r : XS) (hF : X_X1_bring G σ0 th a0 = some r) : xMet l D cx ro A TL SL yX1_bring cX1_bring 2 none 4 false wx_X1_bring [.ref th, va_rf a0] σ0 none r := by
  refine x_of (l9 := [(0, some (.ref th)), (1, some (va_rf a0))]) (by decide) (by cases a0 <;> exact Nat.le_of_ble_eq_true rfl) (by cases a0 <;> rfl) ?_
  intro p e s m args below meth c ls X K hnm hl hlm
  have ha : agW false wx_X1_bring σ0 σ0 := agW.rf
  unfold X_X1_bring at hF
  refine g_aload_n (i := 0) K hl dX1_bring_0 rfl rfl ?_
  refine g_aloadR_n (i := 1) K hl dX1_bring_1 rfl rfl ?_
  refine g_iconst K dX1_bring_2 lc_0 ?_
  have hlZ := hl
  obtain ⟨q1, hq9, ht_q1, hZ⟩ := nnX_i hF
  cases hq9
  have hF := hZ
  clear hZ
  have hl := hlZ
  clear hlZ
  refine x_callV hF ha rfl (fun t h => x_rV X hl (w_X1_bringAt G _ _ _ _ t h) ht_q1 rfl rfl cpx_X1_bringAt q1287 rfl rfl rfl rfl (cat_room rfl) dX1_bring_3) (fun σ2 hF ha => ?_)
  exact x_vretV X hF ha dX1_bring_6

theorem cpx_X0_turned : cpV yX0_turned cX0_turned 3 (some (.object "TubBites$Kept")) 1 := ⟨q1281, qs47, q145, q1282, by decide +kernel⟩
set_option maxHeartbeats 4000000 in
set_option maxRecDepth 100000 in
theorem w_X0_turned {l : Launch} {D : va_G} {cx ro : Nat → Nat} {A : Nat → Prop} {TL SL : Nat} (G : Nat) (σ0 : XS) (th : Nat) (a0 : Option Nat) (r : (Option Nat × XS)) (hF : X_X0_turned TL SL G σ0 th a0 = some r) : xMet l D cx ro A TL SL yX0_turned cX0_turned 3 (some (.object "TubBites$Kept")) 5 true wx_X0_turned [.ref th, va_rf a0] σ0 (some (va_rf r.1)) r.2 := by
  refine x_of (l9 := [(0, some (.ref th)), (1, some (va_rf a0))]) (by decide) (by cases a0 <;> exact Nat.le_of_ble_eq_true rfl) (by cases a0 <;> rfl) ?_
  intro p e s m args below meth c ls X K hnm hl hlm
  have ha : agW true wx_X0_turned σ0 σ0 := agW.rf
  unfold X_X0_turned at hF
  refine g_aload_n (i := 0) K hl dX0_turned_0 rfl rfl ?_
  refine xg_X0_12 X hF dX0_turned_1 (fun t1 hF => ?_)
  have hlZ := hl
  obtain ⟨q2, hq9, ht_q2, hZ⟩ := nnX_i hF
  cases hq9
  have hF := hZ
  clear hZ
  have hl := hlZ
  clear hlZ
  refine x_callW (V := va_rf) hF ha rfl (fun t h => x_rV X hl (w_X1_keep G _ _  t h) ht_q2 rfl rfl cpx_X1_keep q1170 rfl rfl rfl rfl (cat_room rfl) dX0_turned_4) (fun t3 σ4 hF ha => ?_)
  refine g_astoreR_n (i := 2) K hl dX0_turned_7 rfl rfl (lkn_rf rfl) (fun ls hl => ?_)
  refine g_aload_n (i := 0) K hl dX0_turned_8 rfl rfl ?_
  refine xg_X0_12 X hF dX0_turned_9 (fun t5 hF => ?_)
  refine g_aloadR_n (i := 1) K hl dX0_turned_12 rfl rfl ?_
  refine xg_X0_65 X hF dX0_turned_13 (fun t6 hF => ?_)
  have hlZ := hl
  obtain ⟨q7, hq9, ht_q7, hZ⟩ := nnX_i hF
  cases hq9
  have hF := hZ
  clear hZ
  have hl := hlZ
  clear hlZ
  refine x_callV hF ha rfl (fun t h => x_rV X hl (w_X1_bring G _ _ _ t h) ht_q7 rfl rfl cpx_X1_bring q1283 rfl rfl rfl rfl (cat_room rfl) dX0_turned_16) (fun σ8 hF ha => ?_)
  refine g_aloadR_n (i := 1) K hl dX0_turned_19 rfl rfl ?_
  refine g_aloadR_n (i := 2) K hl dX0_turned_20 rfl rfl ?_
  refine xp_X0_65 X hF ha rfl dX0_turned_21 (fun σ9 hF ha => ?_)
  refine g_aloadR_n (i := 1) K hl dX0_turned_24 rfl rfl ?_
  exact x_aretW X hF (Or.inl ⟨_, rfl⟩) ha dX0_turned_25

theorem cpx_X0_isApple : cpV yX0_isApple cX0_isApple 2 (some .boolean) 1 := ⟨q1005, qs38, q145, q1006, by decide +kernel⟩
set_option maxHeartbeats 4000000 in
set_option maxRecDepth 100000 in
theorem w_X0_isApple {l : Launch} {D : va_G} {cx ro : Nat → Nat} {A : Nat → Prop} {TL SL : Nat}  (σ0 : XS) (th : Nat) (a0 : Int32) (r : Int32) (hF : X_X0_isApple σ0 th a0 = some r) : xMet l D cx ro A TL SL yX0_isApple cX0_isApple 2 (some .boolean) 1 false wx_X0_isApple [.ref th, .int a0] σ0 (some (.int r)) σ0 := by
  refine x_of (l9 := [(0, some (.ref th)), (1, some (.int a0))]) (by decide) (by exact Nat.le_of_ble_eq_true rfl) (by rfl) ?_
  intro p e s m args below meth c ls X K hnm hl hlm
  unfold X_X0_isApple at hF
  refine g_iload_n (i := 1) K hl dX0_isApple_0 rfl rfl ?_
  refine g_iconst K dX0_isApple_1 lc_0 ?_
  refine g_aload_n (i := 0) K hl dX0_isApple_2 rfl rfl ?_
  refine xg_X0_12 X hF dX0_isApple_3 (fun t1 hF => ?_)
  refine xg_X0_87 X hF dX0_isApple_6 (fun t2 hF => ?_)
  have hlZ := hl
  obtain ⟨q3, hq9, ht_q3, hZ⟩ := nnX_i hF
  cases hq9
  have hF := hZ
  clear hZ
  have hl := hlZ
  clear hlZ
  refine x_callP (V := Value.int) hF (fun t h => x_rV X hl (w_J2_size _ _  t h) ht_q3 rfl rfl cpx_J2_size q994 rfl rfl rfl rfl (cat_room rfl) dX0_isApple_9) (fun t4 hF => ?_)
  refine g_iconst K dX0_isApple_12 lc_1 ?_
  refine g_isub K dX0_isApple_13 ?_
  refine x_callP (V := Value.int) hF (fun t h => x_rS X hl (w_X0_isIn _ _ _ _ t h) cpx_X0_isIn q1007 rfl rfl rfl rfl (cat_room rfl) dX0_isApple_14) (fun t5 hF => ?_)
  obtain ⟨hz, hF⟩ := bzI_i hF
  exact x_zretP X hF hz agW.rf dX0_isApple_17

theorem cpx_X0_isBobber : cpV yX0_isBobber cX0_isBobber 2 (some .boolean) 1 := ⟨q1018, qs39, q145, q1019, by decide +kernel⟩
set_option maxHeartbeats 4000000 in
set_option maxRecDepth 100000 in
theorem w_X0_isBobber {l : Launch} {D : va_G} {cx ro : Nat → Nat} {A : Nat → Prop} {TL SL : Nat}  (σ0 : XS) (th : Nat) (a0 : Int32) (r : Int32) (hF : X_X0_isBobber σ0 th a0 = some r) : xMet l D cx ro A TL SL yX0_isBobber cX0_isBobber 2 (some .boolean) 1 false wx_X0_isBobber [.ref th, .int a0] σ0 (some (.int r)) σ0 := by
  refine x_of (l9 := [(0, some (.ref th)), (1, some (.int a0))]) (by decide) (by exact Nat.le_of_ble_eq_true rfl) (by rfl) ?_
  intro p e s m args below meth c ls X K hnm hl hlm
  unfold X_X0_isBobber at hF
  refine g_iload_n (i := 1) K hl dX0_isBobber_0 rfl rfl ?_
  refine g_iconst K dX0_isBobber_1 lc_0 ?_
  refine g_aload_n (i := 0) K hl dX0_isBobber_2 rfl rfl ?_
  refine xg_X0_12 X hF dX0_isBobber_3 (fun t1 hF => ?_)
  refine xg_X0_94 X hF dX0_isBobber_6 (fun t2 hF => ?_)
  have hlZ := hl
  obtain ⟨q3, hq9, ht_q3, hZ⟩ := nnX_i hF
  cases hq9
  have hF := hZ
  clear hZ
  have hl := hlZ
  clear hlZ
  refine x_callP (V := Value.int) hF (fun t h => x_rV X hl (w_J2_size _ _  t h) ht_q3 rfl rfl cpx_J2_size q994 rfl rfl rfl rfl (cat_room rfl) dX0_isBobber_9) (fun t4 hF => ?_)
  refine g_iconst K dX0_isBobber_12 lc_1 ?_
  refine g_isub K dX0_isBobber_13 ?_
  refine x_callP (V := Value.int) hF (fun t h => x_rS X hl (w_X0_isIn _ _ _ _ t h) cpx_X0_isIn q1007 rfl rfl rfl rfl (cat_room rfl) dX0_isBobber_14) (fun t5 hF => ?_)
  obtain ⟨hz, hF⟩ := bzI_i hF
  exact x_zretP X hF hz agW.rf dX0_isBobber_17

theorem cpx_X0_isRule : cpV yX0_isRule cX0_isRule 2 (some .boolean) 1 := ⟨q1318, qs49, q145, q1319, by decide +kernel⟩
set_option maxHeartbeats 4000000 in
set_option maxRecDepth 100000 in
theorem w_X0_isRule {l : Launch} {D : va_G} {cx ro : Nat → Nat} {A : Nat → Prop} {TL SL : Nat}  (σ0 : XS) (th : Nat) (a0 : Int32) (r : Int32) (hF : X_X0_isRule σ0 th a0 = some r) : xMet l D cx ro A TL SL yX0_isRule cX0_isRule 2 (some .boolean) 1 false wx_X0_isRule [.ref th, .int a0] σ0 (some (.int r)) σ0 := by
  refine x_of (l9 := [(0, some (.ref th)), (1, some (.int a0))]) (by decide) (by exact Nat.le_of_ble_eq_true rfl) (by rfl) ?_
  intro p e s m args below meth c ls X K hnm hl hlm
  unfold X_X0_isRule at hF
  refine g_iload_n (i := 1) K hl dX0_isRule_0 rfl rfl ?_
  refine g_iconst K dX0_isRule_1 lc_0 ?_
  refine g_aload_n (i := 0) K hl dX0_isRule_2 rfl rfl ?_
  refine xg_X0_12 X hF dX0_isRule_3 (fun t1 hF => ?_)
  refine xg_X0_97 X hF dX0_isRule_6 (fun t2 hF => ?_)
  have hlZ := hl
  obtain ⟨q3, hq9, ht_q3, hZ⟩ := nnX_i hF
  cases hq9
  have hF := hZ
  clear hZ
  have hl := hlZ
  clear hlZ
  refine x_callP (V := Value.int) hF (fun t h => x_rV X hl (w_J2_size _ _  t h) ht_q3 rfl rfl cpx_J2_size q994 rfl rfl rfl rfl (cat_room rfl) dX0_isRule_9) (fun t4 hF => ?_)
  refine g_iconst K dX0_isRule_12 lc_1 ?_
  refine g_isub K dX0_isRule_13 ?_
  refine x_callP (V := Value.int) hF (fun t h => x_rS X hl (w_X0_isIn _ _ _ _ t h) cpx_X0_isIn q1007 rfl rfl rfl rfl (cat_room rfl) dX0_isRule_14) (fun t5 hF => ?_)
  obtain ⟨hz, hF⟩ := bzI_i hF
  exact x_zretP X hF hz agW.rf dX0_isRule_17

theorem cpx_J2_isEmpty : cpV yJ2_isEmpty cJ2_isEmpty 1 (some .boolean) 0 := ⟨q1139, q1140, q149, q1141, by decide +kernel⟩
set_option maxHeartbeats 4000000 in
set_option maxRecDepth 100000 in
theorem w_J2_isEmpty {l : Launch} {D : va_G} {cx ro : Nat → Nat} {A : Nat → Prop} {TL SL : Nat}  (σ0 : XS) (th : Nat)  (r : Int32) (hF : X_J2_isEmpty σ0 th = some r) : xMet l D cx ro A TL SL yJ2_isEmpty cJ2_isEmpty 1 (some .boolean) 0 false wx_J2_isEmpty [.ref th] σ0 (some (.int r)) σ0 := by
  refine x_of (l9 := [(0, some (.ref th))]) (by decide) (by exact Nat.le_of_ble_eq_true rfl) (by rfl) ?_
  intro p e s m args below meth c ls X K hnm hl hlm
  unfold X_J2_isEmpty at hF
  refine g_aload_n (i := 0) K hl dJ2_isEmpty_0 rfl rfl ?_
  refine xg_J2_48 X hF dJ2_isEmpty_1 (fun t1 hF => ?_)
  refine g_if_ne (tgt := 11) K hF dJ2_isEmpty_4 (by decide) (fun hF => ?_) (fun hF => ?_)
  · refine g_iconst K dJ2_isEmpty_11 lc_0 ?_
    exact x_zretP X hF (Or.inl rfl) agW.rf dJ2_isEmpty_12
  · refine g_iconst K dJ2_isEmpty_7 lc_1 ?_
    refine g_goto (tgt := 12) K dJ2_isEmpty_8 (by decide) ?_
    exact x_zretP X hF (Or.inr rfl) agW.rf dJ2_isEmpty_12

theorem cpx_X0_ruleOf : cpV yX0_ruleOf cX0_ruleOf 2 (some (.object "TubBites$Rule")) 1 := ⟨q1136, qs42, q145, q1137, by decide +kernel⟩
set_option maxHeartbeats 4000000 in
set_option maxRecDepth 100000 in
theorem w_X0_ruleOf {l : Launch} {D : va_G} {cx ro : Nat → Nat} {A : Nat → Prop} {TL SL : Nat}  (σ0 : XS) (th : Nat) (a0 : Int32) (r : (Option Nat)) (hF : X_X0_ruleOf σ0 th a0 = some r) : xMet l D cx ro A TL SL yX0_ruleOf cX0_ruleOf 2 (some (.object "TubBites$Rule")) 3 false wx_X0_ruleOf [.ref th, .int a0] σ0 (some (va_rf r)) σ0 := by
  refine x_of (l9 := [(0, some (.ref th)), (1, some (.int a0))]) (by decide) (by exact Nat.le_of_ble_eq_true rfl) (by rfl) ?_
  intro p e s m args below meth c ls X K hnm hl hlm
  unfold X_X0_ruleOf at hF
  refine g_aload_n (i := 0) K hl dX0_ruleOf_0 rfl rfl ?_
  refine xg_X0_12 X hF dX0_ruleOf_1 (fun t1 hF => ?_)
  refine xg_X0_97 X hF dX0_ruleOf_4 (fun t2 hF => ?_)
  have hlZ := hl
  obtain ⟨q3, hq9, ht_q3, hZ⟩ := nnX_i hF
  cases hq9
  have hF := hZ
  clear hZ
  have hl := hlZ
  clear hlZ
  refine x_callP (V := Value.int) hF (fun t h => x_rV X hl (w_J2_isEmpty _ _  t h) ht_q3 rfl rfl cpx_J2_isEmpty q1138 rfl rfl rfl rfl (cat_room rfl) dX0_ruleOf_7) (fun t4 hF => ?_)
  refine g_if_eq (tgt := 17) K hF dX0_ruleOf_10 (by decide) (fun hF => ?_) (fun hF => ?_)
  · refine g_aload_n (i := 0) K hl dX0_ruleOf_17 rfl rfl ?_
    refine xg_X0_12 X hF dX0_ruleOf_18 (fun t5 hF => ?_)
    refine xg_X0_97 X hF dX0_ruleOf_21 (fun t6 hF => ?_)
    refine g_aload_n (i := 0) K hl dX0_ruleOf_24 rfl rfl ?_
    refine xg_X0_12 X hF dX0_ruleOf_25 (fun t7 hF => ?_)
    refine xg_X0_94 X hF dX0_ruleOf_28 (fun t8 hF => ?_)
    refine g_iload_n (i := 1) K hl dX0_ruleOf_31 rfl rfl ?_
    have hlZ := hl
    obtain ⟨q9, hq9, ht_q9, hZ⟩ := nnX_i hF
    cases hq9
    have hF := hZ
    clear hZ
    have hl := hlZ
    clear hlZ
    refine x_callP (V := va_rf) hF (fun t h => x_rV X hl (w_J2_get _ _ _ t h) ht_q9 rfl rfl cpx_J2_get q1010 rfl rfl rfl rfl (cat_room rfl) dX0_ruleOf_32) (fun t10 hF => ?_)
    refine x_cast X hF rfl q1020 dX0_ruleOf_35 (fun hF => ?_)
    refine xg_X0_109 X hF dX0_ruleOf_38 (fun t11 hF => ?_)
    have hlZ := hl
    obtain ⟨q12, hq9, ht_q12, hZ⟩ := nnX_i hF
    cases hq9
    have hF := hZ
    clear hZ
    have hl := hlZ
    clear hlZ
    refine x_callP (V := va_rf) hF (fun t h => x_rV X hl (w_J2_get _ _ _ t h) ht_q12 rfl rfl cpx_J2_get q1010 rfl rfl rfl rfl (cat_room rfl) dX0_ruleOf_41) (fun t13 hF => ?_)
    refine x_cast X hF rfl q1142 dX0_ruleOf_44 (fun hF => ?_)
    exact x_aretP X hF (Or.inl ⟨_, rfl⟩) agW.rf dX0_ruleOf_47
  · refine g_aconst K dX0_ruleOf_13 ?_
    refine g_goto (tgt := 47) K dX0_ruleOf_14 (by decide) ?_
    exact x_aretP X hF (Or.inl ⟨_, rfl⟩) agW.rf dX0_ruleOf_47

theorem cpx_X0_bytes : cpV yX0_bytes cX0_bytes 3 none 1 := ⟨q368, qs1, q145, q369, by decide +kernel⟩
set_option maxHeartbeats 4000000 in
set_option maxRecDepth 100000 in
theorem w_X0_bytes {l : Launch} {D : va_G} {cx ro : Nat → Nat} {A : Nat → Prop} {TL SL : Nat} (G : Nat) (σ0 : XS) (th : Nat) (a0 : Int32) (r : XS) (hF : X_X0_bytes G σ0 th a0 = some r) : xMet l D cx ro A TL SL yX0_bytes cX0_bytes 3 none 0 false wx_X0_bytes [.ref th, .int a0] σ0 none r := by
  refine x_of (l9 := [(0, some (.ref th)), (1, some (.int a0))]) (by decide) (by exact Nat.le_of_ble_eq_true rfl) (by rfl) ?_
  intro p e s m args below meth c ls X K hnm hl hlm
  have B3 : ∀ (k3 : XS → Int32 → Int32 → Option XS) (hk3 : (∀ (σ : XS) (x1 : Int32) (x2 : Int32) (ls : Array Slot), k3 σ x1 x2 = some r → agW false wx_X0_bytes σ0 σ → lq ls 3 [(0, some (.ref th)), (1, some (.int x1)), (2, some (.int x2))] → ZX p l e 0 TL SL s m args below meth c D cx ro A false wx_X0_bytes σ0 none r σ (F0 m 3 ls []))) (σ : XS) (x1 : Int32) (x2 : Int32) (ls : Array Slot), X_X0_bytes_B3 G th k3 σ x1 x2 = some r → agW false wx_X0_bytes σ0 σ → lq ls 3 [(0, some (.ref th)), (1, some (.int x1)), (2, some (.int x2))] → ZX p l e 0 TL SL s m args below meth c D cx ro A false wx_X0_bytes σ0 none r σ (F0 m 3 ls []) := by
    intro k3 hk3 σ x1 x2 ls hF ha hl
    unfold X_X0_bytes_B3 at hF
    refine g_iload_n (i := 2) K hl dX0_bytes_3 rfl rfl ?_
    refine g_if_lt (tgt := 36) K hF dX0_bytes_4 (by decide) (fun hF => ?_) (fun hF => ?_)
    · exact x_vretV X hF ha dX0_bytes_36
    · refine g_aload_n (i := 0) K hl dX0_bytes_7 rfl rfl ?_
      refine xg_X0_16 X hF dX0_bytes_8 (fun t1 hF => ?_)
      refine g_aload_n (i := 0) K hl dX0_bytes_11 rfl rfl ?_
      refine xg_X0_114 X hF dX0_bytes_12 (fun t2 hF => ?_)
      refine g_iload_n (i := 1) K hl dX0_bytes_15 rfl rfl ?_
      refine g_iload_n (i := 2) K hl dX0_bytes_16 rfl rfl ?_
      refine g_ishr K dX0_bytes_17 ?_
      refine g_i2b K dX0_bytes_18 ?_
      refine x_bast X hF ha rfl dX0_bytes_19 (fun σ3 hF ha => ?_)
      refine g_aload_n (i := 0) K hl dX0_bytes_20 rfl rfl ?_
      refine g_dup K dX0_bytes_21 rfl ?_
      refine xg_X0_114 X hF dX0_bytes_22 (fun t4 hF => ?_)
      refine g_iconst K dX0_bytes_25 lc_1 ?_
      refine g_iadd K dX0_bytes_26 ?_
      refine xp_X0_114 X hF ha rfl dX0_bytes_27 (fun σ5 hF ha => ?_)
      refine g_iinc (i := 2) K hl dX0_bytes_30 rfl lc_m8 rfl rfl (fun ls hl => ?_)
      refine g_goto (tgt := 3) K dX0_bytes_33 (by decide) ?_
      exact hk3 _ _ _ ls hF ha (lq_sub hl rfl)
  have L3 : ∀ (n : Nat) (σ : XS) (x1 : Int32) (x2 : Int32) (ls : Array Slot), X_X0_bytes_L3 G th  n σ x1 x2 = some r → agW false wx_X0_bytes σ0 σ → lq ls 3 [(0, some (.ref th)), (1, some (.int x1)), (2, some (.int x2))] → ZX p l e 0 TL SL s m args below meth c D cx ro A false wx_X0_bytes σ0 none r σ (F0 m 3 ls []) := by
    intro  n
    induction n with
    | zero => intro σ x1 x2 ls hF; exact absurd hF (fun h => by cases h)
    | succ n ih => intro σ x1 x2 ls hF ha hl; exact B3  _ ih _ _ _ ls hF ha hl
  have ha : agW false wx_X0_bytes σ0 σ0 := agW.rf
  unfold X_X0_bytes at hF
  refine g_bipush K dX0_bytes_0 lb_24 ?_
  refine g_istore_n (i := 2) K hl dX0_bytes_2 rfl rfl rfl (fun ls hl => ?_)
  exact L3  G _ _ _ ls hF ha (lq_sub hl rfl)

theorem cpx_X0_feed : cpV yX0_feed cX0_feed 6 (some .int) 5 := ⟨q363, q364, q145, q365, by decide +kernel⟩
set_option maxHeartbeats 4000000 in
set_option maxRecDepth 100000 in
theorem w_X0_feed {l : Launch} {D : va_G} {cx ro : Nat → Nat} {A : Nat → Prop} {TL SL : Nat} (G : Nat) (σ0 : XS) (th : Nat) (a0 : Int32) (a1 : Int32) (a2 : Int32) (a3 : Int32) (a4 : Int32) (r : (Int32 × XS)) (hF : X_X0_feed G σ0 th a0 a1 a2 a3 a4 = some r) : xMet l D cx ro A TL SL yX0_feed cX0_feed 6 (some .int) 1 false wx_X0_feed [.ref th, .int a0, .int a1, .int a2, .int a3, .int a4] σ0 (some (.int r.1)) r.2 := by
  refine x_of (l9 := [(0, some (.ref th)), (1, some (.int a0)), (2, some (.int a1)), (3, some (.int a2)), (4, some (.int a3)), (5, some (.int a4))]) (by decide) (by exact Nat.le_of_ble_eq_true rfl) (by rfl) ?_
  intro p e s m args below meth c ls X K hnm hl hlm
  have ha : agW false wx_X0_feed σ0 σ0 := agW.rf
  unfold X_X0_feed at hF
  refine g_aload_n (i := 0) K hl dX0_feed_0 rfl rfl ?_
  refine xg_X0_114 X hF dX0_feed_1 (fun t1 hF => ?_)
  refine g_bipush K dX0_feed_4 lb_20 ?_
  refine g_iadd K dX0_feed_6 ?_
  refine g_sipush K dX0_feed_7 ls_1600 ?_
  refine g_icmp_le (tgt := 15) K hF dX0_feed_10 (by decide) (fun hF => ?_) (fun hF => ?_)
  · refine g_aload_n (i := 0) K hl dX0_feed_15 rfl rfl ?_
    refine g_iload_n (i := 1) K hl dX0_feed_16 rfl rfl ?_
    have hlZ := hl
    obtain ⟨q2, hq9, ht_q2, hZ⟩ := nnX_i hF
    cases hq9
    have hF := hZ
    clear hZ
    have hl := hlZ
    clear hlZ
    refine x_callV hF ha rfl (fun t h => x_rV X hl (w_X0_bytes G _ _ _ t h) ht_q2 rfl rfl cpx_X0_bytes q366 rfl rfl rfl rfl (cat_room rfl) dX0_feed_17) (fun σ3 hF ha => ?_)
    refine g_aload_n (i := 0) K hl dX0_feed_20 rfl rfl ?_
    refine g_iload_n (i := 2) K hl dX0_feed_21 rfl rfl ?_
    have hlZ := hl
    obtain ⟨q4, hq9, ht_q4, hZ⟩ := nnX_i hF
    cases hq9
    have hF := hZ
    clear hZ
    have hl := hlZ
    clear hlZ
    refine x_callV hF ha rfl (fun t h => x_rV X hl (w_X0_bytes G _ _ _ t h) ht_q4 rfl rfl cpx_X0_bytes q366 rfl rfl rfl rfl (cat_room rfl) dX0_feed_22) (fun σ5 hF ha => ?_)
    refine g_aload_n (i := 0) K hl dX0_feed_25 rfl rfl ?_
    refine g_iload_n (i := 3) K hl dX0_feed_26 rfl rfl ?_
    have hlZ := hl
    obtain ⟨q6, hq9, ht_q6, hZ⟩ := nnX_i hF
    cases hq9
    have hF := hZ
    clear hZ
    have hl := hlZ
    clear hlZ
    refine x_callV hF ha rfl (fun t h => x_rV X hl (w_X0_bytes G _ _ _ t h) ht_q6 rfl rfl cpx_X0_bytes q366 rfl rfl rfl rfl (cat_room rfl) dX0_feed_27) (fun σ7 hF ha => ?_)
    refine g_aload_n (i := 0) K hl dX0_feed_30 rfl rfl ?_
    refine g_iload (i := 4) K hl dX0_feed_31 rfl ?_
    have hlZ := hl
    obtain ⟨q8, hq9, ht_q8, hZ⟩ := nnX_i hF
    cases hq9
    have hF := hZ
    clear hZ
    have hl := hlZ
    clear hlZ
    refine x_callV hF ha rfl (fun t h => x_rV X hl (w_X0_bytes G _ _ _ t h) ht_q8 rfl rfl cpx_X0_bytes q366 rfl rfl rfl rfl (cat_room rfl) dX0_feed_33) (fun σ9 hF ha => ?_)
    refine g_aload_n (i := 0) K hl dX0_feed_36 rfl rfl ?_
    refine g_iload (i := 5) K hl dX0_feed_37 rfl ?_
    have hlZ := hl
    obtain ⟨q10, hq9, ht_q10, hZ⟩ := nnX_i hF
    cases hq9
    have hF := hZ
    clear hZ
    have hl := hlZ
    clear hlZ
    refine x_callV hF ha rfl (fun t h => x_rV X hl (w_X0_bytes G _ _ _ t h) ht_q10 rfl rfl cpx_X0_bytes q366 rfl rfl rfl rfl (cat_room rfl) dX0_feed_39) (fun σ11 hF ha => ?_)
    refine g_aload_n (i := 0) K hl dX0_feed_42 rfl rfl ?_
    refine xg_X0_114 X hF dX0_feed_43 (fun t12 hF => ?_)
    exact x_iretW X hF ha dX0_feed_46
  · refine g_iconst K dX0_feed_13 lc_m1 ?_
    exact x_iretW X hF ha dX0_feed_14

theorem cpx_X0_end : cpV yX0_end cX0_end 2 (some .int) 1 := ⟨q371, q372, q145, q373, by decide +kernel⟩
set_option maxHeartbeats 4000000 in
set_option maxRecDepth 100000 in
theorem w_X0_end {l : Launch} {D : va_G} {cx ro : Nat → Nat} {A : Nat → Prop} {TL SL : Nat}  (σ0 : XS) (th : Nat) (a0 : Int32) (r : (Int32 × XS)) (hF : X_X0_end σ0 th a0 = some r) : xMet l D cx ro A TL SL yX0_end cX0_end 2 (some .int) 0 false wx_X0_end [.ref th, .int a0] σ0 (some (.int r.1)) r.2 := by
  refine x_of (l9 := [(0, some (.ref th)), (1, some (.int a0))]) (by decide) (by exact Nat.le_of_ble_eq_true rfl) (by rfl) ?_
  intro p e s m args below meth c ls X K hnm hl hlm
  have ha : agW false wx_X0_end σ0 σ0 := agW.rf
  unfold X_X0_end at hF
  refine g_iload_n (i := 1) K hl dX0_end_0 rfl rfl ?_
  refine g_if_lt (tgt := 12) K hF dX0_end_1 (by decide) (fun hF => ?_) (fun hF => ?_)
  · refine g_iconst K dX0_end_12 lc_m1 ?_
    exact x_iretW X hF ha dX0_end_13
  · refine g_iload_n (i := 1) K hl dX0_end_4 rfl rfl ?_
    refine g_aload_n (i := 0) K hl dX0_end_5 rfl rfl ?_
    refine xg_X0_114 X hF dX0_end_6 (fun t1 hF => ?_)
    refine g_icmp_le (tgt := 14) K hF dX0_end_9 (by decide) (fun hF => ?_) (fun hF => ?_)
    · refine g_aload_n (i := 0) K hl dX0_end_14 rfl rfl ?_
      refine g_iload_n (i := 1) K hl dX0_end_15 rfl rfl ?_
      refine xp_X0_114 X hF ha rfl dX0_end_16 (fun σ2 hF ha => ?_)
      refine g_iload_n (i := 1) K hl dX0_end_19 rfl rfl ?_
      exact x_iretW X hF ha dX0_end_20
    · refine g_iconst K dX0_end_12 lc_m1 ?_
      exact x_iretW X hF ha dX0_end_13

theorem cpx_X0_fault : cpV yX0_fault cX0_fault 2 (some .int) 1 := ⟨q996, q997, q145, q998, by decide +kernel⟩
set_option maxHeartbeats 4000000 in
set_option maxRecDepth 100000 in
theorem w_X0_fault {l : Launch} {D : va_G} {cx ro : Nat → Nat} {A : Nat → Prop} {TL SL : Nat}  (σ0 : XS) (th : Nat) (a0 : Int32) (r : Int32) (hF : X_X0_fault σ0 th a0 = some r) : xMet l D cx ro A TL SL yX0_fault cX0_fault 2 (some .int) 0 false wx_X0_fault [.ref th, .int a0] σ0 (some (.int r)) σ0 := by
  refine x_of (l9 := [(0, some (.ref th)), (1, some (.int a0))]) (by decide) (by exact Nat.le_of_ble_eq_true rfl) (by rfl) ?_
  intro p e s m args below meth c ls X K hnm hl hlm
  unfold X_X0_fault at hF
  refine g_iload_n (i := 1) K hl dX0_fault_0 rfl rfl ?_
  refine g_if_ne (tgt := 11) K hF dX0_fault_1 (by decide) (fun hF => ?_) (fun hF => ?_)
  · refine g_iload_n (i := 1) K hl dX0_fault_11 rfl rfl ?_
    refine g_iconst K dX0_fault_12 lc_1 ?_
    refine g_icmp_ne (tgt := 23) K hF dX0_fault_13 (by decide) (fun hF => ?_) (fun hF => ?_)
    · refine g_iconst K dX0_fault_23 lc_m1 ?_
      exact x_iretP X hF agW.rf dX0_fault_24
    · refine g_aload_n (i := 0) K hl dX0_fault_16 rfl rfl ?_
      refine xg_X0_20 X hF dX0_fault_17 (fun t1 hF => ?_)
      refine g_goto (tgt := 24) K dX0_fault_20 (by decide) ?_
      exact x_iretP X hF agW.rf dX0_fault_24
  · refine g_aload_n (i := 0) K hl dX0_fault_4 rfl rfl ?_
    refine xg_X0_121 X hF dX0_fault_5 (fun t2 hF => ?_)
    refine g_goto (tgt := 24) K dX0_fault_8 (by decide) ?_
    exact x_iretP X hF agW.rf dX0_fault_24

theorem cpx_X0_apple : cpV yX0_apple cX0_apple 4 (some .int) 2 := ⟨q1000, q1001, q145, q1002, by decide +kernel⟩
set_option maxHeartbeats 4000000 in
set_option maxRecDepth 100000 in
theorem w_X0_apple {l : Launch} {D : va_G} {cx ro : Nat → Nat} {A : Nat → Prop} {TL SL : Nat}  (σ0 : XS) (th : Nat) (a0 : Int32) (a1 : Int32) (r : Int32) (hF : X_X0_apple σ0 th a0 a1 = some r) : xMet l D cx ro A TL SL yX0_apple cX0_apple 4 (some .int) 3 false wx_X0_apple [.ref th, .int a0, .int a1] σ0 (some (.int r)) σ0 := by
  refine x_of (l9 := [(0, some (.ref th)), (1, some (.int a0)), (2, some (.int a1))]) (by decide) (by exact Nat.le_of_ble_eq_true rfl) (by rfl) ?_
  intro p e s m args below meth c ls X K hnm hl hlm
  unfold X_X0_apple at hF
  refine g_aload_n (i := 0) K hl dX0_apple_0 rfl rfl ?_
  refine g_iload_n (i := 1) K hl dX0_apple_1 rfl rfl ?_
  have hlZ := hl
  obtain ⟨q1, hq9, ht_q1, hZ⟩ := nnX_i hF
  cases hq9
  have hF := hZ
  clear hZ
  have hl := hlZ
  clear hlZ
  refine x_callP (V := Value.int) hF (fun t h => x_rV X hl (w_X0_isApple _ _ _ t h) ht_q1 rfl rfl cpx_X0_isApple q1003 rfl rfl rfl rfl (cat_room rfl) dX0_apple_2) (fun t2 hF => ?_)
  refine g_if_ne (tgt := 11) K hF dX0_apple_5 (by decide) (fun hF => ?_) (fun hF => ?_)
  · refine g_aload_n (i := 0) K hl dX0_apple_11 rfl rfl ?_
    refine xg_X0_12 X hF dX0_apple_12 (fun t3 hF => ?_)
    refine xg_X0_87 X hF dX0_apple_15 (fun t4 hF => ?_)
    refine g_iload_n (i := 1) K hl dX0_apple_18 rfl rfl ?_
    have hlZ := hl
    obtain ⟨q5, hq9, ht_q5, hZ⟩ := nnX_i hF
    cases hq9
    have hF := hZ
    clear hZ
    have hl := hlZ
    clear hlZ
    refine x_callP (V := va_rf) hF (fun t h => x_rV X hl (w_J2_get _ _ _ t h) ht_q5 rfl rfl cpx_J2_get q1010 rfl rfl rfl rfl (cat_room rfl) dX0_apple_19) (fun t6 hF => ?_)
    refine x_cast X hF rfl q1011 dX0_apple_22 (fun hF => ?_)
    refine g_astoreR_n (i := 3) K hl dX0_apple_25 rfl rfl rfl (fun ls hl => ?_)
    refine g_iload_n (i := 2) K hl dX0_apple_26 rfl rfl ?_
    refine g_if_ne (tgt := 37) K hF dX0_apple_27 (by decide) (fun hF => ?_) (fun hF => ?_)
    · refine g_iload_n (i := 2) K hl dX0_apple_37 rfl rfl ?_
      refine g_iconst K dX0_apple_38 lc_1 ?_
      refine g_icmp_ne (tgt := 49) K hF dX0_apple_39 (by decide) (fun hF => ?_) (fun hF => ?_)
      · refine g_iload_n (i := 2) K hl dX0_apple_49 rfl rfl ?_
        refine g_iconst K dX0_apple_50 lc_2 ?_
        refine g_icmp_ne (tgt := 61) K hF dX0_apple_51 (by decide) (fun hF => ?_) (fun hF => ?_)
        · refine g_iload_n (i := 2) K hl dX0_apple_61 rfl rfl ?_
          refine g_iconst K dX0_apple_62 lc_3 ?_
          refine g_icmp_ne (tgt := 73) K hF dX0_apple_63 (by decide) (fun hF => ?_) (fun hF => ?_)
          · refine g_iload_n (i := 2) K hl dX0_apple_73 rfl rfl ?_
            refine g_iconst K dX0_apple_74 lc_4 ?_
            refine g_icmp_ne (tgt := 85) K hF dX0_apple_75 (by decide) (fun hF => ?_) (fun hF => ?_)
            · refine g_bipush K dX0_apple_85 lb_m2 ?_
              exact x_iretP X hF agW.rf dX0_apple_87
            · refine g_aloadR_n (i := 3) K hl dX0_apple_78 rfl rfl ?_
              refine xg_X0_159 X hF dX0_apple_79 (fun t7 hF => ?_)
              refine g_goto (tgt := 87) K dX0_apple_82 (by decide) ?_
              exact x_iretP X hF agW.rf dX0_apple_87
          · refine g_aloadR_n (i := 3) K hl dX0_apple_66 rfl rfl ?_
            refine xg_X0_156 X hF dX0_apple_67 (fun t8 hF => ?_)
            refine g_goto (tgt := 87) K dX0_apple_70 (by decide) ?_
            exact x_iretP X hF agW.rf dX0_apple_87
        · refine g_aloadR_n (i := 3) K hl dX0_apple_54 rfl rfl ?_
          refine xg_X0_153 X hF dX0_apple_55 (fun t9 hF => ?_)
          refine g_goto (tgt := 87) K dX0_apple_58 (by decide) ?_
          exact x_iretP X hF agW.rf dX0_apple_87
      · refine g_aloadR_n (i := 3) K hl dX0_apple_42 rfl rfl ?_
        refine xg_X0_150 X hF dX0_apple_43 (fun t10 hF => ?_)
        refine g_goto (tgt := 87) K dX0_apple_46 (by decide) ?_
        exact x_iretP X hF agW.rf dX0_apple_87
    · refine g_aloadR_n (i := 3) K hl dX0_apple_30 rfl rfl ?_
      refine xg_X0_147 X hF dX0_apple_31 (fun t11 hF => ?_)
      refine g_goto (tgt := 87) K dX0_apple_34 (by decide) ?_
      exact x_iretP X hF agW.rf dX0_apple_87
  · refine g_bipush K dX0_apple_8 lb_m2 ?_
    exact x_iretP X hF agW.rf dX0_apple_10

theorem cpx_X0_bobber : cpV yX0_bobber cX0_bobber 4 (some .int) 2 := ⟨q1013, q1014, q145, q1015, by decide +kernel⟩
set_option maxHeartbeats 4000000 in
set_option maxRecDepth 100000 in
theorem w_X0_bobber {l : Launch} {D : va_G} {cx ro : Nat → Nat} {A : Nat → Prop} {TL SL : Nat}  (σ0 : XS) (th : Nat) (a0 : Int32) (a1 : Int32) (r : Int32) (hF : X_X0_bobber σ0 th a0 a1 = some r) : xMet l D cx ro A TL SL yX0_bobber cX0_bobber 4 (some .int) 3 false wx_X0_bobber [.ref th, .int a0, .int a1] σ0 (some (.int r)) σ0 := by
  refine x_of (l9 := [(0, some (.ref th)), (1, some (.int a0)), (2, some (.int a1))]) (by decide) (by exact Nat.le_of_ble_eq_true rfl) (by rfl) ?_
  intro p e s m args below meth c ls X K hnm hl hlm
  unfold X_X0_bobber at hF
  refine g_aload_n (i := 0) K hl dX0_bobber_0 rfl rfl ?_
  refine g_iload_n (i := 1) K hl dX0_bobber_1 rfl rfl ?_
  have hlZ := hl
  obtain ⟨q1, hq9, ht_q1, hZ⟩ := nnX_i hF
  cases hq9
  have hF := hZ
  clear hZ
  have hl := hlZ
  clear hlZ
  refine x_callP (V := Value.int) hF (fun t h => x_rV X hl (w_X0_isBobber _ _ _ t h) ht_q1 rfl rfl cpx_X0_isBobber q1016 rfl rfl rfl rfl (cat_room rfl) dX0_bobber_2) (fun t2 hF => ?_)
  refine g_if_ne (tgt := 10) K hF dX0_bobber_5 (by decide) (fun hF => ?_) (fun hF => ?_)
  · refine g_aload_n (i := 0) K hl dX0_bobber_10 rfl rfl ?_
    refine xg_X0_12 X hF dX0_bobber_11 (fun t3 hF => ?_)
    refine xg_X0_94 X hF dX0_bobber_14 (fun t4 hF => ?_)
    refine g_iload_n (i := 1) K hl dX0_bobber_17 rfl rfl ?_
    have hlZ := hl
    obtain ⟨q5, hq9, ht_q5, hZ⟩ := nnX_i hF
    cases hq9
    have hF := hZ
    clear hZ
    have hl := hlZ
    clear hlZ
    refine x_callP (V := va_rf) hF (fun t h => x_rV X hl (w_J2_get _ _ _ t h) ht_q5 rfl rfl cpx_J2_get q1010 rfl rfl rfl rfl (cat_room rfl) dX0_bobber_18) (fun t6 hF => ?_)
    refine x_cast X hF rfl q1020 dX0_bobber_21 (fun hF => ?_)
    refine g_astoreR_n (i := 3) K hl dX0_bobber_24 rfl rfl rfl (fun ls hl => ?_)
    refine g_iload_n (i := 2) K hl dX0_bobber_25 rfl rfl ?_
    refine g_if_ne (tgt := 36) K hF dX0_bobber_26 (by decide) (fun hF => ?_) (fun hF => ?_)
    · refine g_iload_n (i := 2) K hl dX0_bobber_36 rfl rfl ?_
      refine g_iconst K dX0_bobber_37 lc_1 ?_
      refine g_icmp_ne (tgt := 48) K hF dX0_bobber_38 (by decide) (fun hF => ?_) (fun hF => ?_)
      · refine g_iload_n (i := 2) K hl dX0_bobber_48 rfl rfl ?_
        refine g_iconst K dX0_bobber_49 lc_2 ?_
        refine g_icmp_ne (tgt := 60) K hF dX0_bobber_50 (by decide) (fun hF => ?_) (fun hF => ?_)
        · refine g_iconst K dX0_bobber_60 lc_m1 ?_
          exact x_iretP X hF agW.rf dX0_bobber_61
        · refine g_aloadR_n (i := 3) K hl dX0_bobber_53 rfl rfl ?_
          refine xg_X0_170 X hF dX0_bobber_54 (fun t7 hF => ?_)
          refine g_goto (tgt := 61) K dX0_bobber_57 (by decide) ?_
          exact x_iretP X hF agW.rf dX0_bobber_61
      · refine g_aloadR_n (i := 3) K hl dX0_bobber_41 rfl rfl ?_
        refine xg_X0_167 X hF dX0_bobber_42 (fun t8 hF => ?_)
        refine g_goto (tgt := 61) K dX0_bobber_45 (by decide) ?_
        exact x_iretP X hF agW.rf dX0_bobber_61
    · refine g_aloadR_n (i := 3) K hl dX0_bobber_29 rfl rfl ?_
      refine xg_X0_164 X hF dX0_bobber_30 (fun t9 hF => ?_)
      refine g_goto (tgt := 61) K dX0_bobber_33 (by decide) ?_
      exact x_iretP X hF agW.rf dX0_bobber_61
  · refine g_iconst K dX0_bobber_8 lc_m1 ?_
    exact x_iretP X hF agW.rf dX0_bobber_9

theorem cpx_X14_far : cpV yX14_far cX14_far 2 (some .int) 1 := ⟨q1034, q1035, q173, q1036, by decide +kernel⟩
set_option maxHeartbeats 4000000 in
set_option maxRecDepth 100000 in
theorem w_X14_far {l : Launch} {D : va_G} {cx ro : Nat → Nat} {A : Nat → Prop} {TL SL : Nat}  (σ0 : XS) (th : Nat) (a0 : Option Nat) (r : Int32) (hF : X_X14_far σ0 th a0 = some r) : xMet l D cx ro A TL SL yX14_far cX14_far 2 (some .int) 1 false wx_X14_far [.ref th, va_rf a0] σ0 (some (.int r)) σ0 := by
  refine x_of (l9 := [(0, some (.ref th)), (1, some (va_rf a0))]) (by decide) (by cases a0 <;> exact Nat.le_of_ble_eq_true rfl) (by cases a0 <;> rfl) ?_
  intro p e s m args below meth c ls X K hnm hl hlm
  unfold X_X14_far at hF
  refine g_aloadR_n (i := 1) K hl dX14_far_0 rfl rfl ?_
  refine xg_X14_32 X hF dX14_far_1 (fun t1 hF => ?_)
  refine g_aload_n (i := 0) K hl dX14_far_4 rfl rfl ?_
  refine xg_X14_37 X hF dX14_far_5 (fun t2 hF => ?_)
  refine g_isub K dX14_far_8 ?_
  refine x_mabs X hl q1037 rfl rfl dX14_far_9 ?_
  refine g_aloadR_n (i := 1) K hl dX14_far_12 rfl rfl ?_
  refine xg_X14_44 X hF dX14_far_13 (fun t3 hF => ?_)
  refine g_aload_n (i := 0) K hl dX14_far_16 rfl rfl ?_
  refine xg_X14_47 X hF dX14_far_17 (fun t4 hF => ?_)
  refine g_isub K dX14_far_20 ?_
  refine x_mabs X hl q1037 rfl rfl dX14_far_21 ?_
  refine x_mmax X hl q1040 rfl rfl dX14_far_24 ?_
  exact x_iretP X hF agW.rf dX14_far_27


set_option maxHeartbeats 4000000 in
set_option maxRecDepth 100000 in
theorem w_X16_breath {l : Launch} {D : va_G} {cx ro : Nat → Nat} {A : Nat → Prop} {TL SL : Nat}  (σ0 : XS) (th : Nat)  (r : Int32) (hF : X_X16_breath σ0 th = some r) : xMet l D cx ro A TL SL yX16_breath cX16_breath 1 (some .int) 0 false wx_X16_breath [.ref th] σ0 (some (.int r)) σ0 := by
  refine x_of (l9 := [(0, some (.ref th))]) (by decide) (by exact Nat.le_of_ble_eq_true rfl) (by rfl) ?_
  intro p e s m args below meth c ls X K hnm hl hlm
  unfold X_X16_breath at hF
  refine g_iconst K dX16_breath_0 lc_0 ?_
  exact x_iretP X hF agW.rf dX16_breath_1


set_option maxHeartbeats 4000000 in
set_option maxRecDepth 100000 in
theorem w_X20_breath {l : Launch} {D : va_G} {cx ro : Nat → Nat} {A : Nat → Prop} {TL SL : Nat}  (σ0 : XS) (th : Nat)  (r : Int32) (hF : X_X20_breath σ0 th = some r) : xMet l D cx ro A TL SL yX20_breath cX20_breath 1 (some .int) 0 false wx_X20_breath [.ref th] σ0 (some (.int r)) σ0 := by
  refine x_of (l9 := [(0, some (.ref th))]) (by decide) (by exact Nat.le_of_ble_eq_true rfl) (by rfl) ?_
  intro p e s m args below meth c ls X K hnm hl hlm
  unfold X_X20_breath at hF
  refine g_iconst K dX20_breath_0 lc_1 ?_
  exact x_iretP X hF agW.rf dX20_breath_1


set_option maxHeartbeats 4000000 in
set_option maxRecDepth 100000 in
theorem w_X17_breath {l : Launch} {D : va_G} {cx ro : Nat → Nat} {A : Nat → Prop} {TL SL : Nat}  (σ0 : XS) (th : Nat)  (r : Int32) (hF : X_X17_breath σ0 th = some r) : xMet l D cx ro A TL SL yX17_breath cX17_breath 1 (some .int) 0 false wx_X17_breath [.ref th] σ0 (some (.int r)) σ0 := by
  refine x_of (l9 := [(0, some (.ref th))]) (by decide) (by exact Nat.le_of_ble_eq_true rfl) (by rfl) ?_
  intro p e s m args below meth c ls X K hnm hl hlm
  unfold X_X17_breath at hF
  refine g_iconst K dX17_breath_0 lc_3 ?_
  exact x_iretP X hF agW.rf dX17_breath_1


set_option maxHeartbeats 4000000 in
set_option maxRecDepth 100000 in
theorem w_X18_breath {l : Launch} {D : va_G} {cx ro : Nat → Nat} {A : Nat → Prop} {TL SL : Nat}  (σ0 : XS) (th : Nat)  (r : Int32) (hF : X_X18_breath σ0 th = some r) : xMet l D cx ro A TL SL yX18_breath cX18_breath 1 (some .int) 0 false wx_X18_breath [.ref th] σ0 (some (.int r)) σ0 := by
  refine x_of (l9 := [(0, some (.ref th))]) (by decide) (by exact Nat.le_of_ble_eq_true rfl) (by rfl) ?_
  intro p e s m args below meth c ls X K hnm hl hlm
  unfold X_X18_breath at hF
  refine g_iconst K dX18_breath_0 lc_0 ?_
  exact x_iretP X hF agW.rf dX18_breath_1

def vm_v_Try_breath (l : Launch) (D : va_G) (cx ro : Nat → Nat) (A : Nat → Prop) (TL SL : Nat) (σ : XS) (r : Option Nat)  (z : Int32) : Prop := ∃ q, r = some q ∧ ((tg σ q = 50 ∧ xMet l D cx ro A TL SL yX16_breath cX16_breath 1 (some .int) 0 false wx_X16_breath [.ref q] σ (some (.int z)) σ) ∨ (tg σ q = 51 ∧ xMet l D cx ro A TL SL yX16_breath cX16_breath 1 (some .int) 0 false wx_X16_breath [.ref q] σ (some (.int z)) σ) ∨ (tg σ q = 52 ∧ xMet l D cx ro A TL SL yX20_breath cX20_breath 1 (some .int) 0 false wx_X20_breath [.ref q] σ (some (.int z)) σ) ∨ (tg σ q = 53 ∧ xMet l D cx ro A TL SL yX17_breath cX17_breath 1 (some .int) 0 false wx_X17_breath [.ref q] σ (some (.int z)) σ) ∨ (tg σ q = 54 ∧ xMet l D cx ro A TL SL yX18_breath cX18_breath 1 (some .int) 0 false wx_X18_breath [.ref q] σ (some (.int z)) σ))
set_option maxHeartbeats 4000000 in
theorem w_v_Try_breath {l : Launch} {D : va_G} {cx ro : Nat → Nat} {A : Nat → Prop} {TL SL : Nat} (σ : XS) (r : Option Nat)  (z : Int32) (hF : X_v_Try_breath  σ r  = some z) : vm_v_Try_breath l D cx ro A TL SL σ r  z := by
  unfold X_v_Try_breath at hF
  cases r with
  | none => exact absurd hF (fun h => by cases h)
  | some q =>
    refine ⟨q, rfl, ?_⟩
    dsimp only at hF
    by_cases ht : tg σ q = 50
    · rw [if_pos ht] at hF
      exact Or.inl ⟨ht, w_X16_breath _ _  _ hF⟩
    rw [if_neg ht] at hF
    by_cases ht : tg σ q = 51
    · rw [if_pos ht] at hF
      exact Or.inr (Or.inl ⟨ht, w_X16_breath _ _  _ hF⟩)
    rw [if_neg ht] at hF
    by_cases ht : tg σ q = 52
    · rw [if_pos ht] at hF
      exact Or.inr (Or.inr (Or.inl ⟨ht, w_X20_breath _ _  _ hF⟩))
    rw [if_neg ht] at hF
    by_cases ht : tg σ q = 53
    · rw [if_pos ht] at hF
      exact Or.inr (Or.inr (Or.inr (Or.inl ⟨ht, w_X17_breath _ _  _ hF⟩)))
    rw [if_neg ht] at hF
    by_cases ht : tg σ q = 54
    · rw [if_pos ht] at hF
      exact Or.inr (Or.inr (Or.inr (Or.inr (⟨ht, w_X18_breath _ _  _ hF⟩))))
    rw [if_neg ht] at hF
    exact absurd hF (fun h => by cases h)

theorem cpu_v_Try_breath_50 : cpU "TubBites$Free" ({ cls := "TubBites$Try", name := "breath", desc := "()I" } : MethodName) yX16_breath cX16_breath 1 (some .int) 0 := ⟨q1045, q1046, q1047, q2357, q1048, by decide +kernel⟩
theorem cpu_v_Try_breath_51 : cpU "TubBites$Stalked" ({ cls := "TubBites$Try", name := "breath", desc := "()I" } : MethodName) yX16_breath cX16_breath 1 (some .int) 0 := ⟨q1045, q1055, q1047, q2357, q1048, by decide +kernel⟩
theorem cpu_v_Try_breath_52 : cpU "TubBites$Walled" ({ cls := "TubBites$Try", name := "breath", desc := "()I" } : MethodName) yX20_breath cX20_breath 1 (some .int) 0 := ⟨q1045, q1056, q1057, q2360, q1058, by decide +kernel⟩
theorem cpu_v_Try_breath_53 : cpU "TubBites$Grounded" ({ cls := "TubBites$Try", name := "breath", desc := "()I" } : MethodName) yX17_breath cX17_breath 1 (some .int) 0 := ⟨q1045, q1049, q1050, q2358, q1051, by decide +kernel⟩
theorem cpu_v_Try_breath_54 : cpU "TubBites$Leaned" ({ cls := "TubBites$Try", name := "breath", desc := "()I" } : MethodName) yX18_breath cX18_breath 1 (some .int) 0 := ⟨q1045, q1052, q1053, q2359, q1054, by decide +kernel⟩
set_option maxHeartbeats 4000000 in
theorem xr_v_Try_breath {p : Program} {l : Launch} {e : Env} {s : State} {m : MethodId} {args : Array Value} {below : List Frame} {meth : Method} {c : Code} {cc : ByteArray} {nL : Nat} {own : String} {D : va_G} {cx ro : Nat → Nat} {A : Nat → Prop} {ret : Option FieldType} {ls : Array Slot} {lq0 : List (Nat × Option Value)} {pc : Nat} {rest st : List Value} {TL SL t0 s0 : Nat} {d index : Nat} {σ : XS} {r : Option Nat}  {z : Int32} (X : XX p m c cc nL s args meth D cx ro A ret own) (h : lq ls nL lq0) (hM : vm_v_Try_breath l D cx ro A TL SL σ r  z) (hq : Cond.methodLink own index ({ cls := "TubBites$Try", name := "breath", desc := "()I" } : MethodName) ∈ lw_all) (hd1 : Nat.ble (0 + 1) d = true) (hst : st = [].reverse ++ va_rf r :: rest) (hroom : (rest.map fun v => v.category).sum ≤ 8) (dec : decode cc pc = .ok (.invokevirtual index, 3)) :
    RunX p l e (xRoom d (TL - t0) (SL - s0)) s m args below meth c D cx ro A TL SL t0 s0 (F0 m pc ls st) rest false wx_v_Try_breath σ (some (.int z)) σ ((va_rf r) :: []).toArray := by
  obtain ⟨q, rfl, hM⟩ := hM
  have hd1 := Nat.le_of_ble_eq_true hd1
  rcases hM with ⟨ht, hM⟩ | ⟨ht, hM⟩ | ⟨ht, hM⟩ | ⟨ht, hM⟩ | ⟨ht, hM⟩
  · exact (x_wk (n2 := false) (n3 := false) rfl (x_rU (As := []) X h hM (rec_t (k := 0) ht (by decide) rfl) cpu_v_Try_breath_50 (va_Decl.abs (X.k.2.1 _ (List.mem_of_getElem? (i := 72) rfl))) hq rfl (ble_of (by omega)) rfl hst hroom dec))
  · exact (x_wk (n2 := false) (n3 := false) rfl (x_rU (As := []) X h hM (rec_t (k := 1) ht (by decide) rfl) cpu_v_Try_breath_51 (va_Decl.abs (X.k.2.1 _ (List.mem_of_getElem? (i := 72) rfl))) hq rfl (ble_of (by omega)) rfl hst hroom dec))
  · exact (x_wk (n2 := false) (n3 := false) rfl (x_rU (As := []) X h hM (rec_t (k := 2) ht (by decide) rfl) cpu_v_Try_breath_52 (va_Decl.abs (X.k.2.1 _ (List.mem_of_getElem? (i := 72) rfl))) hq rfl (ble_of (by omega)) rfl hst hroom dec))
  · exact (x_wk (n2 := false) (n3 := false) rfl (x_rU (As := []) X h hM (rec_t (k := 3) ht (by decide) rfl) cpu_v_Try_breath_53 (va_Decl.abs (X.k.2.1 _ (List.mem_of_getElem? (i := 72) rfl))) hq rfl (ble_of (by omega)) rfl hst hroom dec))
  · exact (x_wk (n2 := false) (n3 := false) rfl (x_rU (As := []) X h hM (rec_t (k := 4) ht (by decide) rfl) cpu_v_Try_breath_54 (va_Decl.abs (X.k.2.1 _ (List.mem_of_getElem? (i := 72) rfl))) hq rfl (ble_of (by omega)) rfl hst hroom dec))



set_option maxHeartbeats 4000000 in
set_option maxRecDepth 100000 in
theorem w_X21_suits {l : Launch} {D : va_G} {cx ro : Nat → Nat} {A : Nat → Prop} {TL SL : Nat}  (σ0 : XS) (th : Nat) (a0 : Option Nat) (a1 : Option Nat) (a2 : Option Nat) (r : Int32) (hF : X_X21_suits σ0 th a0 a1 a2 = some r) : xMet l D cx ro A TL SL yX21_suits cX21_suits 4 (some .boolean) 0 false wx_X21_suits [.ref th, va_rf a0, va_rf a1, va_rf a2] σ0 (some (.int r)) σ0 := by
  refine x_of (l9 := [(0, some (.ref th)), (1, some (va_rf a0)), (2, some (va_rf a1)), (3, some (va_rf a2))]) (by decide) (by cases a0 <;> cases a1 <;> cases a2 <;> exact Nat.le_of_ble_eq_true rfl) (by cases a0 <;> cases a1 <;> cases a2 <;> rfl) ?_
  intro p e s m args below meth c ls X K hnm hl hlm
  unfold X_X21_suits at hF
  refine g_iconst K dX21_suits_0 lc_1 ?_
  exact x_zretP X hF (Or.inr rfl) agW.rf dX21_suits_1


set_option maxHeartbeats 4000000 in
set_option maxRecDepth 100000 in
theorem w_X19_suits {l : Launch} {D : va_G} {cx ro : Nat → Nat} {A : Nat → Prop} {TL SL : Nat}  (σ0 : XS) (th : Nat) (a0 : Option Nat) (a1 : Option Nat) (a2 : Option Nat) (r : Int32) (hF : X_X19_suits σ0 th a0 a1 a2 = some r) : xMet l D cx ro A TL SL yX19_suits cX19_suits 4 (some .boolean) 0 false wx_X19_suits [.ref th, va_rf a0, va_rf a1, va_rf a2] σ0 (some (.int r)) σ0 := by
  refine x_of (l9 := [(0, some (.ref th)), (1, some (va_rf a0)), (2, some (va_rf a1)), (3, some (va_rf a2))]) (by decide) (by cases a0 <;> cases a1 <;> cases a2 <;> exact Nat.le_of_ble_eq_true rfl) (by cases a0 <;> cases a1 <;> cases a2 <;> rfl) ?_
  intro p e s m args below meth c ls X K hnm hl hlm
  unfold X_X19_suits at hF
  refine g_aloadR_n (i := 3) K hl dX19_suits_0 rfl rfl ?_
  refine xg_X19_7 X hF dX19_suits_1 (fun t1 hF => ?_)
  obtain ⟨hz, hF⟩ := bzI_i hF
  exact x_zretP X hF hz agW.rf dX19_suits_4

theorem cpx_X1_isRim : cpV yX1_isRim cX1_isRim 3 (some .boolean) 2 := ⟨q1095, q1096, q146, q1097, by decide +kernel⟩
set_option maxHeartbeats 4000000 in
set_option maxRecDepth 100000 in
theorem w_X1_isRim {l : Launch} {D : va_G} {cx ro : Nat → Nat} {A : Nat → Prop} {TL SL : Nat}  (σ0 : XS) (th : Nat) (a0 : Int32) (a1 : Int32) (r : Int32) (hF : X_X1_isRim σ0 th a0 a1 = some r) : xMet l D cx ro A TL SL yX1_isRim cX1_isRim 3 (some .boolean) 0 false wx_X1_isRim [.ref th, .int a0, .int a1] σ0 (some (.int r)) σ0 := by
  refine x_of (l9 := [(0, some (.ref th)), (1, some (.int a0)), (2, some (.int a1))]) (by decide) (by exact Nat.le_of_ble_eq_true rfl) (by rfl) ?_
  intro p e s m args below meth c ls X K hnm hl hlm
  unfold X_X1_isRim at hF
  refine g_iload_n (i := 1) K hl dX1_isRim_0 rfl rfl ?_
  refine g_if_eq (tgt := 28) K hF dX1_isRim_1 (by decide) (fun hF => ?_) (fun hF => ?_)
  · refine g_iconst K dX1_isRim_28 lc_1 ?_
    refine g_goto (tgt := 33) K dX1_isRim_29 (by decide) ?_
    exact x_zretP X hF (Or.inr rfl) agW.rf dX1_isRim_33
  · refine g_iload_n (i := 2) K hl dX1_isRim_4 rfl rfl ?_
    refine g_if_eq (tgt := 28) K hF dX1_isRim_5 (by decide) (fun hF => ?_) (fun hF => ?_)
    · refine g_iconst K dX1_isRim_28 lc_1 ?_
      refine g_goto (tgt := 33) K dX1_isRim_29 (by decide) ?_
      exact x_zretP X hF (Or.inr rfl) agW.rf dX1_isRim_33
    · refine g_iload_n (i := 1) K hl dX1_isRim_8 rfl rfl ?_
      refine g_aload_n (i := 0) K hl dX1_isRim_9 rfl rfl ?_
      refine xg_X1_41 X hF dX1_isRim_10 (fun t1 hF => ?_)
      refine g_iconst K dX1_isRim_13 lc_1 ?_
      refine g_isub K dX1_isRim_14 ?_
      refine g_icmp_eq (tgt := 28) K hF dX1_isRim_15 (by decide) (fun hF => ?_) (fun hF => ?_)
      · refine g_iconst K dX1_isRim_28 lc_1 ?_
        refine g_goto (tgt := 33) K dX1_isRim_29 (by decide) ?_
        exact x_zretP X hF (Or.inr rfl) agW.rf dX1_isRim_33
      · refine g_iload_n (i := 2) K hl dX1_isRim_18 rfl rfl ?_
        refine g_aload_n (i := 0) K hl dX1_isRim_19 rfl rfl ?_
        refine xg_X1_48 X hF dX1_isRim_20 (fun t2 hF => ?_)
        refine g_iconst K dX1_isRim_23 lc_1 ?_
        refine g_isub K dX1_isRim_24 ?_
        refine g_icmp_ne (tgt := 32) K hF dX1_isRim_25 (by decide) (fun hF => ?_) (fun hF => ?_)
        · refine g_iconst K dX1_isRim_32 lc_0 ?_
          exact x_zretP X hF (Or.inl rfl) agW.rf dX1_isRim_33
        · refine g_iconst K dX1_isRim_28 lc_1 ?_
          refine g_goto (tgt := 33) K dX1_isRim_29 (by decide) ?_
          exact x_zretP X hF (Or.inr rfl) agW.rf dX1_isRim_33


set_option maxHeartbeats 4000000 in
set_option maxRecDepth 100000 in
theorem w_X20_suits {l : Launch} {D : va_G} {cx ro : Nat → Nat} {A : Nat → Prop} {TL SL : Nat}  (σ0 : XS) (th : Nat) (a0 : Option Nat) (a1 : Option Nat) (a2 : Option Nat) (r : Int32) (hF : X_X20_suits σ0 th a0 a1 a2 = some r) : xMet l D cx ro A TL SL yX20_suits cX20_suits 4 (some .boolean) 1 false wx_X20_suits [.ref th, va_rf a0, va_rf a1, va_rf a2] σ0 (some (.int r)) σ0 := by
  refine x_of (l9 := [(0, some (.ref th)), (1, some (va_rf a0)), (2, some (va_rf a1)), (3, some (va_rf a2))]) (by decide) (by cases a0 <;> cases a1 <;> cases a2 <;> exact Nat.le_of_ble_eq_true rfl) (by cases a0 <;> cases a1 <;> cases a2 <;> rfl) ?_
  intro p e s m args below meth c ls X K hnm hl hlm
  unfold X_X20_suits at hF
  refine g_aloadR_n (i := 1) K hl dX20_suits_0 rfl rfl ?_
  refine g_aloadR_n (i := 3) K hl dX20_suits_1 rfl rfl ?_
  refine xg_X20_7 X hF dX20_suits_2 (fun t1 hF => ?_)
  refine g_aloadR_n (i := 3) K hl dX20_suits_5 rfl rfl ?_
  refine xg_X20_13 X hF dX20_suits_6 (fun t2 hF => ?_)
  have hlZ := hl
  obtain ⟨q3, hq9, ht_q3, hZ⟩ := nnX_i hF
  cases hq9
  have hF := hZ
  clear hZ
  have hl := hlZ
  clear hlZ
  refine x_callP (V := Value.int) hF (fun t h => x_rV X hl (w_X1_isRim _ _ _ _ t h) ht_q3 rfl rfl cpx_X1_isRim q1094 rfl rfl rfl rfl (cat_room rfl) dX20_suits_9) (fun t4 hF => ?_)
  obtain ⟨hz, hF⟩ := bzI_i hF
  exact x_zretP X hF hz agW.rf dX20_suits_12


set_option maxHeartbeats 4000000 in
set_option maxRecDepth 100000 in
theorem w_X17_suits {l : Launch} {D : va_G} {cx ro : Nat → Nat} {A : Nat → Prop} {TL SL : Nat}  (σ0 : XS) (th : Nat) (a0 : Option Nat) (a1 : Option Nat) (a2 : Option Nat) (r : Int32) (hF : X_X17_suits σ0 th a0 a1 a2 = some r) : xMet l D cx ro A TL SL yX17_suits cX17_suits 4 (some .boolean) 0 false wx_X17_suits [.ref th, va_rf a0, va_rf a1, va_rf a2] σ0 (some (.int r)) σ0 := by
  refine x_of (l9 := [(0, some (.ref th)), (1, some (va_rf a0)), (2, some (va_rf a1)), (3, some (va_rf a2))]) (by decide) (by cases a0 <;> cases a1 <;> cases a2 <;> exact Nat.le_of_ble_eq_true rfl) (by cases a0 <;> cases a1 <;> cases a2 <;> rfl) ?_
  intro p e s m args below meth c ls X K hnm hl hlm
  unfold X_X17_suits at hF
  refine g_iconst K dX17_suits_0 lc_1 ?_
  exact x_zretP X hF (Or.inr rfl) agW.rf dX17_suits_1

theorem cpx_X1_at : cpV yX1_at cX1_at 5 (some (.object "TubBites$Apple")) 2 := ⟨q1085, q1086, q146, q1087, by decide +kernel⟩
set_option maxHeartbeats 4000000 in
set_option maxRecDepth 100000 in
theorem w_X1_at {l : Launch} {D : va_G} {cx ro : Nat → Nat} {A : Nat → Prop} {TL SL : Nat} (G : Nat) (σ0 : XS) (th : Nat) (a0 : Int32) (a1 : Int32) (r : (Option Nat)) (hF : X_X1_at G σ0 th a0 a1 = some r) : xMet l D cx ro A TL SL yX1_at cX1_at 5 (some (.object "TubBites$Apple")) 3 false wx_X1_at [.ref th, .int a0, .int a1] σ0 (some (va_rf r)) σ0 := by
  refine x_of (l9 := [(0, some (.ref th)), (1, some (.int a0)), (2, some (.int a1))]) (by decide) (by exact Nat.le_of_ble_eq_true rfl) (by rfl) ?_
  intro p e s m args below meth c ls X K hnm hl hlm
  have B2 : ∀ (k2 : Int32 → Int32 → Int32 → Option (Option Nat)) (hk2 : (∀ (x1 : Int32) (x2 : Int32) (x3 : Int32) (ls : Array Slot), k2 x1 x2 x3 = some r → lq ls 5 [(0, some (.ref th)), (1, some (.int x1)), (2, some (.int x2)), (3, some (.int x3))] → ZX p l e 3 TL SL s m args below meth c D cx ro A false wx_X1_at σ0 (some (va_rf r)) σ0 σ0 (F0 m 2 ls []))) (x1 : Int32) (x2 : Int32) (x3 : Int32) (ls : Array Slot), X_X1_at_B2 G σ0 th k2 x1 x2 x3 = some r → lq ls 5 [(0, some (.ref th)), (1, some (.int x1)), (2, some (.int x2)), (3, some (.int x3))] → ZX p l e 3 TL SL s m args below meth c D cx ro A false wx_X1_at σ0 (some (va_rf r)) σ0 σ0 (F0 m 2 ls []) := by
    intro k2 hk2 x1 x2 x3 ls hF hl
    unfold X_X1_at_B2 at hF
    refine g_iload_n (i := 3) K hl dX1_at_2 rfl rfl ?_
    refine g_aload_n (i := 0) K hl dX1_at_3 rfl rfl ?_
    refine xg_X1_28 X hF dX1_at_4 (fun t1 hF => ?_)
    have hlZ := hl
    obtain ⟨q2, hq9, ht_q2, hZ⟩ := nnX_i hF
    cases hq9
    have hF := hZ
    clear hZ
    have hl := hlZ
    clear hlZ
    refine x_callP (V := Value.int) hF (fun t h => x_rV X hl (w_J2_size _ _  t h) ht_q2 rfl rfl cpx_J2_size q982 rfl rfl rfl rfl (cat_room rfl) dX1_at_7) (fun t3 hF => ?_)
    refine g_icmp_ge (tgt := 62) K hF dX1_at_10 (by decide) (fun hF => ?_) (fun hF => ?_)
    · refine g_aconst K dX1_at_62 ?_
      exact x_aretP X hF (Or.inl ⟨_, rfl⟩) agW.rf dX1_at_63
    · refine g_aload_n (i := 0) K hl dX1_at_13 rfl rfl ?_
      refine xg_X1_28 X hF dX1_at_14 (fun t4 hF => ?_)
      refine g_iload_n (i := 3) K hl dX1_at_17 rfl rfl ?_
      have hlZ := hl
      obtain ⟨q5, hq9, ht_q5, hZ⟩ := nnX_i hF
      cases hq9
      have hF := hZ
      clear hZ
      have hl := hlZ
      clear hlZ
      refine x_callP (V := va_rf) hF (fun t h => x_rV X hl (w_J2_get _ _ _ t h) ht_q5 rfl rfl cpx_J2_get q983 rfl rfl rfl rfl (cat_room rfl) dX1_at_18) (fun t6 hF => ?_)
      refine x_cast X hF rfl q984 dX1_at_21 (fun hF => ?_)
      refine g_astoreR (i := 4) K hl dX1_at_24 rfl rfl (fun ls hl => ?_)
      refine g_aloadR (i := 4) K hl dX1_at_26 rfl ?_
      refine xg_X1_73 X hF dX1_at_28 (fun t7 hF => ?_)
      refine g_iconst K dX1_at_31 lc_m1 ?_
      refine g_icmp_ne (tgt := 56) K hF dX1_at_32 (by decide) (fun hF => ?_) (fun hF => ?_)
      · refine g_iinc (i := 3) K hl dX1_at_56 rfl lc_1 rfl rfl (fun ls hl => ?_)
        refine g_goto (tgt := 2) K dX1_at_59 (by decide) ?_
        exact hk2 _ _ _ ls hF (lq_sub hl rfl)
      · refine g_aloadR (i := 4) K hl dX1_at_35 rfl ?_
        refine xg_X1_76 X hF dX1_at_37 (fun t8 hF => ?_)
        refine g_iload_n (i := 1) K hl dX1_at_40 rfl rfl ?_
        refine g_icmp_ne (tgt := 56) K hF dX1_at_41 (by decide) (fun hF => ?_) (fun hF => ?_)
        · refine g_iinc (i := 3) K hl dX1_at_56 rfl lc_1 rfl rfl (fun ls hl => ?_)
          refine g_goto (tgt := 2) K dX1_at_59 (by decide) ?_
          exact hk2 _ _ _ ls hF (lq_sub hl rfl)
        · refine g_aloadR (i := 4) K hl dX1_at_44 rfl ?_
          refine xg_X1_79 X hF dX1_at_46 (fun t9 hF => ?_)
          refine g_iload_n (i := 2) K hl dX1_at_49 rfl rfl ?_
          refine g_icmp_ne (tgt := 56) K hF dX1_at_50 (by decide) (fun hF => ?_) (fun hF => ?_)
          · refine g_iinc (i := 3) K hl dX1_at_56 rfl lc_1 rfl rfl (fun ls hl => ?_)
            refine g_goto (tgt := 2) K dX1_at_59 (by decide) ?_
            exact hk2 _ _ _ ls hF (lq_sub hl rfl)
          · refine g_aloadR (i := 4) K hl dX1_at_53 rfl ?_
            exact x_aretP X hF (Or.inl ⟨_, rfl⟩) agW.rf dX1_at_55
  have L2 : ∀ (n : Nat) (x1 : Int32) (x2 : Int32) (x3 : Int32) (ls : Array Slot), X_X1_at_L2 G σ0 th  n x1 x2 x3 = some r → lq ls 5 [(0, some (.ref th)), (1, some (.int x1)), (2, some (.int x2)), (3, some (.int x3))] → ZX p l e 3 TL SL s m args below meth c D cx ro A false wx_X1_at σ0 (some (va_rf r)) σ0 σ0 (F0 m 2 ls []) := by
    intro  n
    induction n with
    | zero => intro x1 x2 x3 ls hF; exact absurd hF (fun h => by cases h)
    | succ n ih => intro x1 x2 x3 ls hF hl; exact B2  _ ih _ _ _ ls hF hl
  unfold X_X1_at at hF
  refine g_iconst K dX1_at_0 lc_0 ?_
  refine g_istore_n (i := 3) K hl dX1_at_1 rfl rfl rfl (fun ls hl => ?_)
  exact L2  G _ _ _ ls hF (lq_sub hl rfl)

theorem cpx_J13_signum : cpS yJ13_signum cJ13_signum 1 (some .int) 1 := ⟨q1078, q174, q1079, by decide +kernel⟩
set_option maxHeartbeats 4000000 in
set_option maxRecDepth 100000 in
theorem w_J13_signum {l : Launch} {D : va_G} {cx ro : Nat → Nat} {A : Nat → Prop} {TL SL : Nat}  (σ0 : XS) (a0 : Int32) (r : Int32) (hF : X_J13_signum σ0 a0 = some r) : xMet l D cx ro A TL SL yJ13_signum cJ13_signum 1 (some .int) 0 false wx_J13_signum [.int a0] σ0 (some (.int r)) σ0 := by
  refine x_of (l9 := [(0, some (.int a0))]) (by decide) (by exact Nat.le_of_ble_eq_true rfl) (by rfl) ?_
  intro p e s m args below meth c ls X K hnm hl hlm
  unfold X_J13_signum at hF
  refine g_iload_n (i := 0) K hl dJ13_signum_0 rfl rfl ?_
  refine g_bipush K dJ13_signum_1 lb_31 ?_
  refine g_ishr K dJ13_signum_3 ?_
  refine g_iload_n (i := 0) K hl dJ13_signum_4 rfl rfl ?_
  refine g_ineg K dJ13_signum_5 ?_
  refine g_bipush K dJ13_signum_6 lb_31 ?_
  refine g_iushr K dJ13_signum_8 ?_
  refine g_ior K dJ13_signum_9 ?_
  exact x_iretP X hF agW.rf dJ13_signum_10

theorem cpx_X1_isAcross : cpS yX1_isAcross cX1_isAcross 2 (some .boolean) 2 := ⟨q1074, q146, q1075, by decide +kernel⟩
set_option maxHeartbeats 4000000 in
set_option maxRecDepth 100000 in
theorem w_X1_isAcross {l : Launch} {D : va_G} {cx ro : Nat → Nat} {A : Nat → Prop} {TL SL : Nat}  (σ0 : XS) (a0 : Option Nat) (a1 : Option Nat) (r : Int32) (hF : X_X1_isAcross σ0 a0 a1 = some r) : xMet l D cx ro A TL SL yX1_isAcross cX1_isAcross 2 (some .boolean) 1 false wx_X1_isAcross [va_rf a0, va_rf a1] σ0 (some (.int r)) σ0 := by
  refine x_of (l9 := [(0, some (va_rf a0)), (1, some (va_rf a1))]) (by decide) (by cases a0 <;> cases a1 <;> exact Nat.le_of_ble_eq_true rfl) (by cases a0 <;> cases a1 <;> rfl) ?_
  intro p e s m args below meth c ls X K hnm hl hlm
  unfold X_X1_isAcross at hF
  refine g_aloadR_n (i := 1) K hl dX1_isAcross_0 rfl rfl ?_
  refine xg_X1_76 X hF dX1_isAcross_1 (fun t1 hF => ?_)
  refine g_aloadR_n (i := 0) K hl dX1_isAcross_4 rfl rfl ?_
  refine xg_X1_94 X hF dX1_isAcross_5 (fun t2 hF => ?_)
  refine g_isub K dX1_isAcross_8 ?_
  refine x_mabs X hl q1076 rfl rfl dX1_isAcross_9 ?_
  refine g_aloadR_n (i := 1) K hl dX1_isAcross_12 rfl rfl ?_
  refine xg_X1_79 X hF dX1_isAcross_13 (fun t3 hF => ?_)
  refine g_aloadR_n (i := 0) K hl dX1_isAcross_16 rfl rfl ?_
  refine xg_X1_101 X hF dX1_isAcross_17 (fun t4 hF => ?_)
  refine g_isub K dX1_isAcross_20 ?_
  refine x_mabs X hl q1076 rfl rfl dX1_isAcross_21 ?_
  refine g_icmp_lt (tgt := 31) K hF dX1_isAcross_24 (by decide) (fun hF => ?_) (fun hF => ?_)
  · refine g_iconst K dX1_isAcross_31 lc_0 ?_
    exact x_zretP X hF (Or.inl rfl) agW.rf dX1_isAcross_32
  · refine g_iconst K dX1_isAcross_27 lc_1 ?_
    refine g_goto (tgt := 32) K dX1_isAcross_28 (by decide) ?_
    exact x_zretP X hF (Or.inr rfl) agW.rf dX1_isAcross_32

theorem cpx_X1_pushX : cpV yX1_pushX cX1_pushX 3 (some .int) 2 := ⟨q1070, q1071, q146, q1072, by decide +kernel⟩
set_option maxHeartbeats 4000000 in
set_option maxRecDepth 100000 in
theorem w_X1_pushX {l : Launch} {D : va_G} {cx ro : Nat → Nat} {A : Nat → Prop} {TL SL : Nat}  (σ0 : XS) (th : Nat) (a0 : Option Nat) (a1 : Option Nat) (r : Int32) (hF : X_X1_pushX σ0 th a0 a1 = some r) : xMet l D cx ro A TL SL yX1_pushX cX1_pushX 3 (some .int) 2 false wx_X1_pushX [.ref th, va_rf a0, va_rf a1] σ0 (some (.int r)) σ0 := by
  refine x_of (l9 := [(0, some (.ref th)), (1, some (va_rf a0)), (2, some (va_rf a1))]) (by decide) (by cases a0 <;> cases a1 <;> exact Nat.le_of_ble_eq_true rfl) (by cases a0 <;> cases a1 <;> rfl) ?_
  intro p e s m args below meth c ls X K hnm hl hlm
  unfold X_X1_pushX at hF
  refine g_aloadR_n (i := 1) K hl dX1_pushX_0 rfl rfl ?_
  refine g_aloadR_n (i := 2) K hl dX1_pushX_1 rfl rfl ?_
  refine x_callP (V := Value.int) hF (fun t h => x_rS X hl (w_X1_isAcross _ _ _ t h) cpx_X1_isAcross q1073 rfl rfl rfl rfl (cat_room rfl) dX1_pushX_2) (fun t1 hF => ?_)
  refine g_if_eq (tgt := 23) K hF dX1_pushX_5 (by decide) (fun hF => ?_) (fun hF => ?_)
  · refine g_iconst K dX1_pushX_23 lc_0 ?_
    exact x_iretP X hF agW.rf dX1_pushX_24
  · refine g_aloadR_n (i := 2) K hl dX1_pushX_8 rfl rfl ?_
    refine xg_X1_76 X hF dX1_pushX_9 (fun t2 hF => ?_)
    refine g_aloadR_n (i := 1) K hl dX1_pushX_12 rfl rfl ?_
    refine xg_X1_94 X hF dX1_pushX_13 (fun t3 hF => ?_)
    refine g_isub K dX1_pushX_16 ?_
    refine x_callP (V := Value.int) hF (fun t h => x_rS X hl (w_J13_signum _ _ t h) cpx_J13_signum q1077 rfl rfl rfl rfl (cat_room rfl) dX1_pushX_17) (fun t4 hF => ?_)
    refine g_goto (tgt := 24) K dX1_pushX_20 (by decide) ?_
    exact x_iretP X hF agW.rf dX1_pushX_24

theorem cpx_X1_pushY : cpV yX1_pushY cX1_pushY 3 (some .int) 2 := ⟨q1081, q1082, q146, q1083, by decide +kernel⟩
set_option maxHeartbeats 4000000 in
set_option maxRecDepth 100000 in
theorem w_X1_pushY {l : Launch} {D : va_G} {cx ro : Nat → Nat} {A : Nat → Prop} {TL SL : Nat}  (σ0 : XS) (th : Nat) (a0 : Option Nat) (a1 : Option Nat) (r : Int32) (hF : X_X1_pushY σ0 th a0 a1 = some r) : xMet l D cx ro A TL SL yX1_pushY cX1_pushY 3 (some .int) 2 false wx_X1_pushY [.ref th, va_rf a0, va_rf a1] σ0 (some (.int r)) σ0 := by
  refine x_of (l9 := [(0, some (.ref th)), (1, some (va_rf a0)), (2, some (va_rf a1))]) (by decide) (by cases a0 <;> cases a1 <;> exact Nat.le_of_ble_eq_true rfl) (by cases a0 <;> cases a1 <;> rfl) ?_
  intro p e s m args below meth c ls X K hnm hl hlm
  unfold X_X1_pushY at hF
  refine g_aloadR_n (i := 1) K hl dX1_pushY_0 rfl rfl ?_
  refine g_aloadR_n (i := 2) K hl dX1_pushY_1 rfl rfl ?_
  refine x_callP (V := Value.int) hF (fun t h => x_rS X hl (w_X1_isAcross _ _ _ t h) cpx_X1_isAcross q1073 rfl rfl rfl rfl (cat_room rfl) dX1_pushY_2) (fun t1 hF => ?_)
  refine g_if_eq (tgt := 12) K hF dX1_pushY_5 (by decide) (fun hF => ?_) (fun hF => ?_)
  · refine g_aloadR_n (i := 2) K hl dX1_pushY_12 rfl rfl ?_
    refine xg_X1_79 X hF dX1_pushY_13 (fun t2 hF => ?_)
    refine g_aloadR_n (i := 1) K hl dX1_pushY_16 rfl rfl ?_
    refine xg_X1_101 X hF dX1_pushY_17 (fun t3 hF => ?_)
    refine g_isub K dX1_pushY_20 ?_
    refine x_callP (V := Value.int) hF (fun t h => x_rS X hl (w_J13_signum _ _ t h) cpx_J13_signum q1077 rfl rfl rfl rfl (cat_room rfl) dX1_pushY_21) (fun t4 hF => ?_)
    exact x_iretP X hF agW.rf dX1_pushY_24
  · refine g_iconst K dX1_pushY_8 lc_0 ?_
    refine g_goto (tgt := 24) K dX1_pushY_9 (by decide) ?_
    exact x_iretP X hF agW.rf dX1_pushY_24


set_option maxHeartbeats 4000000 in
set_option maxRecDepth 100000 in
theorem w_X18_suits {l : Launch} {D : va_G} {cx ro : Nat → Nat} {A : Nat → Prop} {TL SL : Nat} (G : Nat) (σ0 : XS) (th : Nat) (a0 : Option Nat) (a1 : Option Nat) (a2 : Option Nat) (r : Int32) (hF : X_X18_suits G σ0 th a0 a1 a2 = some r) : xMet l D cx ro A TL SL yX18_suits cX18_suits 6 (some .boolean) 4 false wx_X18_suits [.ref th, va_rf a0, va_rf a1, va_rf a2] σ0 (some (.int r)) σ0 := by
  refine x_of (l9 := [(0, some (.ref th)), (1, some (va_rf a0)), (2, some (va_rf a1)), (3, some (va_rf a2))]) (by decide) (by cases a0 <;> cases a1 <;> cases a2 <;> exact Nat.le_of_ble_eq_true rfl) (by cases a0 <;> cases a1 <;> cases a2 <;> rfl) ?_
  intro p e s m args below meth c ls X K hnm hl hlm
  have L26 : ∀ (x1 : Option Nat) (x3 : Option Nat) (x4 : Int32) (x5 : Int32) (ls : Array Slot), X_X18_suits_L26 G σ0 th  x1 x3 x4 x5 = some r → lq ls 6 [(0, some (.ref th)), (1, some (va_rf x1)), (3, some (va_rf x3)), (4, some (.int x4)), (5, some (.int x5))] → ZX p l e 4 TL SL s m args below meth c D cx ro A false wx_X18_suits σ0 (some (.int r)) σ0 σ0 (F0 m 26 ls []) := by
    intro  x1 x3 x4 x5 ls hF hl
    unfold X_X18_suits_L26 at hF
    refine g_aloadR_n (i := 1) K hl dX18_suits_26 rfl rfl ?_
    refine g_aloadR_n (i := 3) K hl dX18_suits_27 rfl rfl ?_
    refine xg_X18_16 X hF dX18_suits_28 (fun t1 hF => ?_)
    refine g_iload (i := 4) K hl dX18_suits_31 rfl ?_
    refine g_iadd K dX18_suits_33 ?_
    refine g_aloadR_n (i := 3) K hl dX18_suits_34 rfl rfl ?_
    refine xg_X18_22 X hF dX18_suits_35 (fun t2 hF => ?_)
    refine g_iload (i := 5) K hl dX18_suits_38 rfl ?_
    refine g_iadd K dX18_suits_40 ?_
    have hlZ := hl
    obtain ⟨q3, hq9, ht_q3, hZ⟩ := nnX_i hF
    cases hq9
    have hF := hZ
    clear hZ
    have hl := hlZ
    clear hlZ
    refine x_callP (V := va_rf) hF (fun t h => x_rV X hl (w_X1_at G _ _ _ _ t h) ht_q3 rfl rfl cpx_X1_at q1084 rfl rfl rfl rfl (cat_room rfl) dX18_suits_41) (fun t4 hF => ?_)
    refine g_ifnull (tgt := 51) K hF dX18_suits_44 (by decide) (fun hF => ?_) (fun hF => ?_)
    · refine g_iconst K dX18_suits_51 lc_0 ?_
      exact x_zretP X hF (Or.inl rfl) agW.rf dX18_suits_52
    · refine g_iconst K dX18_suits_47 lc_1 ?_
      refine g_goto (tgt := 52) K dX18_suits_48 (by decide) ?_
      exact x_zretP X hF (Or.inr rfl) agW.rf dX18_suits_52
  unfold X_X18_suits at hF
  refine g_aloadR_n (i := 1) K hl dX18_suits_0 rfl rfl ?_
  refine g_aloadR_n (i := 2) K hl dX18_suits_1 rfl rfl ?_
  refine g_aloadR_n (i := 3) K hl dX18_suits_2 rfl rfl ?_
  have hlZ := hl
  obtain ⟨q1, hq9, ht_q1, hZ⟩ := nnX_i hF
  cases hq9
  have hF := hZ
  clear hZ
  have hl := hlZ
  clear hlZ
  refine x_callP (V := Value.int) hF (fun t h => x_rV X hl (w_X1_pushX _ _ _ _ t h) ht_q1 rfl rfl cpx_X1_pushX q1069 rfl rfl rfl rfl (cat_room rfl) dX18_suits_3) (fun t2 hF => ?_)
  refine g_istore (i := 4) K hl dX18_suits_6 rfl (lkn_rf rfl) (fun ls hl => ?_)
  refine g_aloadR_n (i := 1) K hl dX18_suits_8 rfl rfl ?_
  refine g_aloadR_n (i := 2) K hl dX18_suits_9 rfl rfl ?_
  refine g_aloadR_n (i := 3) K hl dX18_suits_10 rfl rfl ?_
  have hlZ := hl
  obtain ⟨q3, hq9, ht_q3, hZ⟩ := nnX_i hF
  cases hq9
  have hF := hZ
  clear hZ
  have hl := hlZ
  clear hlZ
  refine x_callP (V := Value.int) hF (fun t h => x_rV X hl (w_X1_pushY _ _ _ _ t h) ht_q3 rfl rfl cpx_X1_pushY q1080 rfl rfl rfl rfl (cat_room rfl) dX18_suits_11) (fun t4 hF => ?_)
  refine g_istore (i := 5) K hl dX18_suits_14 rfl rfl (fun ls hl => ?_)
  refine g_iload (i := 4) K hl dX18_suits_16 rfl ?_
  refine g_if_ne (tgt := 26) K hF dX18_suits_18 (by decide) (fun hF => ?_) (fun hF => ?_)
  · exact L26  _ _ _ _ ls hF (lq_sub hl rfl)
  · refine g_iload (i := 5) K hl dX18_suits_21 rfl ?_
    refine g_if_eq (tgt := 51) K hF dX18_suits_23 (by decide) (fun hF => ?_) (fun hF => ?_)
    · refine g_iconst K dX18_suits_51 lc_0 ?_
      exact x_zretP X hF (Or.inl rfl) agW.rf dX18_suits_52
    · exact L26  _ _ _ _ ls hF (lq_sub hl rfl)

def vm_v_Try_suits (l : Launch) (D : va_G) (cx ro : Nat → Nat) (A : Nat → Prop) (TL SL : Nat) (σ : XS) (r : Option Nat) (a0 : Option Nat) (a1 : Option Nat) (a2 : Option Nat) (z : Int32) : Prop := ∃ q, r = some q ∧ ((tg σ q = 50 ∧ xMet l D cx ro A TL SL yX21_suits cX21_suits 4 (some .boolean) 0 false wx_X21_suits [.ref q, va_rf a0, va_rf a1, va_rf a2] σ (some (.int z)) σ) ∨ (tg σ q = 51 ∧ xMet l D cx ro A TL SL yX19_suits cX19_suits 4 (some .boolean) 0 false wx_X19_suits [.ref q, va_rf a0, va_rf a1, va_rf a2] σ (some (.int z)) σ) ∨ (tg σ q = 52 ∧ xMet l D cx ro A TL SL yX20_suits cX20_suits 4 (some .boolean) 1 false wx_X20_suits [.ref q, va_rf a0, va_rf a1, va_rf a2] σ (some (.int z)) σ) ∨ (tg σ q = 53 ∧ xMet l D cx ro A TL SL yX17_suits cX17_suits 4 (some .boolean) 0 false wx_X17_suits [.ref q, va_rf a0, va_rf a1, va_rf a2] σ (some (.int z)) σ) ∨ (tg σ q = 54 ∧ xMet l D cx ro A TL SL yX18_suits cX18_suits 6 (some .boolean) 4 false wx_X18_suits [.ref q, va_rf a0, va_rf a1, va_rf a2] σ (some (.int z)) σ))
set_option maxHeartbeats 4000000 in
theorem w_v_Try_suits {l : Launch} {D : va_G} {cx ro : Nat → Nat} {A : Nat → Prop} {TL SL : Nat} (G : Nat) (σ : XS) (r : Option Nat) (a0 : Option Nat) (a1 : Option Nat) (a2 : Option Nat) (z : Int32) (hF : X_v_Try_suits G σ r a0 a1 a2 = some z) : vm_v_Try_suits l D cx ro A TL SL σ r a0 a1 a2 z := by
  unfold X_v_Try_suits at hF
  cases r with
  | none => exact absurd hF (fun h => by cases h)
  | some q =>
    refine ⟨q, rfl, ?_⟩
    dsimp only at hF
    by_cases ht : tg σ q = 50
    · rw [if_pos ht] at hF
      exact Or.inl ⟨ht, w_X21_suits _ _ _ _ _ _ hF⟩
    rw [if_neg ht] at hF
    by_cases ht : tg σ q = 51
    · rw [if_pos ht] at hF
      exact Or.inr (Or.inl ⟨ht, w_X19_suits _ _ _ _ _ _ hF⟩)
    rw [if_neg ht] at hF
    by_cases ht : tg σ q = 52
    · rw [if_pos ht] at hF
      exact Or.inr (Or.inr (Or.inl ⟨ht, w_X20_suits _ _ _ _ _ _ hF⟩))
    rw [if_neg ht] at hF
    by_cases ht : tg σ q = 53
    · rw [if_pos ht] at hF
      exact Or.inr (Or.inr (Or.inr (Or.inl ⟨ht, w_X17_suits _ _ _ _ _ _ hF⟩)))
    rw [if_neg ht] at hF
    by_cases ht : tg σ q = 54
    · rw [if_pos ht] at hF
      exact Or.inr (Or.inr (Or.inr (Or.inr (⟨ht, w_X18_suits G _ _ _ _ _ _ hF⟩))))
    rw [if_neg ht] at hF
    exact absurd hF (fun h => by cases h)

theorem cpu_v_Try_suits_50 : cpU "TubBites$Free" ({ cls := "TubBites$Try", name := "suits", desc := "(LTubBites$Water;LTubBites$Bobber;LTubBites$Apple;)Z" } : MethodName) yX21_suits cX21_suits 4 (some .boolean) 3 := ⟨q1061, q1062, q1060, q2362, q1098, by decide +kernel⟩
theorem cpu_v_Try_suits_51 : cpU "TubBites$Stalked" ({ cls := "TubBites$Try", name := "suits", desc := "(LTubBites$Water;LTubBites$Bobber;LTubBites$Apple;)Z" } : MethodName) yX19_suits cX19_suits 4 (some .boolean) 3 := ⟨q1061, q1088, q1089, q2361, q1090, by decide +kernel⟩
theorem cpu_v_Try_suits_52 : cpU "TubBites$Walled" ({ cls := "TubBites$Try", name := "suits", desc := "(LTubBites$Water;LTubBites$Bobber;LTubBites$Apple;)Z" } : MethodName) yX20_suits cX20_suits 4 (some .boolean) 3 := ⟨q1061, q1091, q1092, q2360, q1093, by decide +kernel⟩
theorem cpu_v_Try_suits_53 : cpU "TubBites$Grounded" ({ cls := "TubBites$Try", name := "suits", desc := "(LTubBites$Water;LTubBites$Bobber;LTubBites$Apple;)Z" } : MethodName) yX17_suits cX17_suits 4 (some .boolean) 3 := ⟨q1061, q1063, q1064, q2358, q1065, by decide +kernel⟩
theorem cpu_v_Try_suits_54 : cpU "TubBites$Leaned" ({ cls := "TubBites$Try", name := "suits", desc := "(LTubBites$Water;LTubBites$Bobber;LTubBites$Apple;)Z" } : MethodName) yX18_suits cX18_suits 6 (some .boolean) 3 := ⟨q1061, q1066, q1067, q2359, q1068, by decide +kernel⟩
set_option maxHeartbeats 4000000 in
theorem xr_v_Try_suits {p : Program} {l : Launch} {e : Env} {s : State} {m : MethodId} {args : Array Value} {below : List Frame} {meth : Method} {c : Code} {cc : ByteArray} {nL : Nat} {own : String} {D : va_G} {cx ro : Nat → Nat} {A : Nat → Prop} {ret : Option FieldType} {ls : Array Slot} {lq0 : List (Nat × Option Value)} {pc : Nat} {rest st : List Value} {TL SL t0 s0 : Nat} {d index : Nat} {σ : XS} {r : Option Nat} {a0 : Option Nat} {a1 : Option Nat} {a2 : Option Nat} {z : Int32} (X : XX p m c cc nL s args meth D cx ro A ret own) (h : lq ls nL lq0) (hM : vm_v_Try_suits l D cx ro A TL SL σ r a0 a1 a2 z) (hq : Cond.methodLink own index ({ cls := "TubBites$Try", name := "suits", desc := "(LTubBites$Water;LTubBites$Bobber;LTubBites$Apple;)Z" } : MethodName) ∈ lw_all) (hd1 : Nat.ble (4 + 1) d = true) (hst : st = [va_rf a0, va_rf a1, va_rf a2].reverse ++ va_rf r :: rest) (hroom : (rest.map fun v => v.category).sum ≤ 8) (dec : decode cc pc = .ok (.invokevirtual index, 3)) :
    RunX p l e (xRoom d (TL - t0) (SL - s0)) s m args below meth c D cx ro A TL SL t0 s0 (F0 m pc ls st) rest false wx_v_Try_suits σ (some (.int z)) σ ((va_rf r) :: [va_rf a0, va_rf a1, va_rf a2]).toArray := by
  obtain ⟨q, rfl, hM⟩ := hM
  have hd1 := Nat.le_of_ble_eq_true hd1
  rcases hM with ⟨ht, hM⟩ | ⟨ht, hM⟩ | ⟨ht, hM⟩ | ⟨ht, hM⟩ | ⟨ht, hM⟩
  · exact (x_wk (n2 := false) (n3 := false) rfl (x_rU (As := [va_rf a0, va_rf a1, va_rf a2]) X h hM (rec_t (k := 0) ht (by decide) rfl) cpu_v_Try_suits_50 (va_Decl.of (X.gx.hts _ q1060) (X.gx.hts _ q1098)) hq rfl (ble_of (by omega)) rfl hst hroom dec))
  · exact (x_wk (n2 := false) (n3 := false) rfl (x_rU (As := [va_rf a0, va_rf a1, va_rf a2]) X h hM (rec_t (k := 1) ht (by decide) rfl) cpu_v_Try_suits_51 (va_Decl.of (X.gx.hts _ q1060) (X.gx.hts _ q1098)) hq rfl (ble_of (by omega)) rfl hst hroom dec))
  · exact (x_wk (n2 := false) (n3 := false) rfl (x_rU (As := [va_rf a0, va_rf a1, va_rf a2]) X h hM (rec_t (k := 2) ht (by decide) rfl) cpu_v_Try_suits_52 (va_Decl.of (X.gx.hts _ q1060) (X.gx.hts _ q1098)) hq rfl (ble_of (by omega)) rfl hst hroom dec))
  · exact (x_wk (n2 := false) (n3 := false) rfl (x_rU (As := [va_rf a0, va_rf a1, va_rf a2]) X h hM (rec_t (k := 3) ht (by decide) rfl) cpu_v_Try_suits_53 (va_Decl.of (X.gx.hts _ q1060) (X.gx.hts _ q1098)) hq rfl (ble_of (by omega)) rfl hst hroom dec))
  · exact (x_wk (n2 := false) (n3 := false) rfl (x_rU (As := [va_rf a0, va_rf a1, va_rf a2]) X h hM (rec_t (k := 4) ht (by decide) rfl) cpu_v_Try_suits_54 (va_Decl.of (X.gx.hts _ q1060) (X.gx.hts _ q1098)) hq rfl (ble_of (by omega)) rfl hst hroom dec))

