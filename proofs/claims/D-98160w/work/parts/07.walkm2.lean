/-! walks of the model: printed by genm.py -/
theorem cp_tries : cpV yX4_tries cX4_tries 7 (some .boolean) 3 := ⟨q2104, qs114, q152, q2105, by decide +kernel⟩
set_option maxHeartbeats 4000000 in
set_option maxRecDepth 100000 in
theorem w_tries {l : Launch} {D : va_G} {cz : Nat → ClassId} {qm : Nat} (G : Nat) (σ0 : MS) (a0 : Int32) (a1 : Int32) (a2 : Int32) (r : (Int32 × MS)) (hF : M_tries G σ0 a0 a1 a2 = some r) : mMet l D cz qm yX4_tries cX4_tries 7 (some .boolean) 5 wr_tries [.ref qm, .int a0, .int a1, .int a2] σ0 (some (.int r.1)) r.2 := by
  refine m_of (by decide) rfl ?_
  intro p e s m args below meth c ls K hl
  have L100 : ∀  (σ : MS) (x1 : Int32) (x2 : Int32) (x3 : Int32) (x4 : Int32) (x5 : Int32) (x6 : Int32) (s1 : Int32) (s2 : Int32) (s3 : Int32) (ls : Array Slot), M_tries_L100 G  σ x1 x2 x3 x4 x5 x6 s1 s2 s3 = some r → ag wr_tries σ0 σ → lq ls 7 [(0, some (.ref qm)), (1, some (.int x1)), (2, some (.int x2)), (3, some (.int x3)), (4, some (.int x4)), (5, some (.int x5)), (6, some (.int x6))] → ZM p l e 5 s m args below meth c D cz qm wr_tries σ0 (some (.int r.1)) r.2 σ (F0 m 100 ls [.int s3, .int s2, .int s1, .ref (mad qm 66)]) := by
    intro  σ x1 x2 x3 x4 x5 x6 s1 s2 s3 ls hF ha hl
    unfold M_tries_L100 at hF
    refine g_iadd K dX4_tries_100 ?_
    refine mst_66 K hF ha rfl dX4_tries_101 (fun σ1 hF ha => ?_)
    refine g_aload_n (i := 0) K hl dX4_tries_102 rfl rfl ?_
    refine mget_66 K dX4_tries_103 ?_
    refine g_iload (i := 6) K hl dX4_tries_106 rfl ?_
    refine g_iconst K dX4_tries_108 lc_2 ?_
    refine g_iadd K dX4_tries_109 ?_
    refine g_dup2 K dX4_tries_110 rfl rfl ?_
    refine mld_66 K hF dX4_tries_111 (fun t2 hF => ?_)
    refine g_iload (i := 4) K hl dX4_tries_112 rfl ?_
    refine g_iadd K dX4_tries_114 ?_
    refine mst_66 K hF ha rfl dX4_tries_115 (fun σ3 hF ha => ?_)
    refine g_iload (i := 5) K hl dX4_tries_116 rfl ?_
    refine g_if_eq (tgt := 131) K hF dX4_tries_118 (by decide) (fun hF => ?_) (fun hF => ?_)
    · refine g_aload_n (i := 0) K hl dX4_tries_131 rfl rfl ?_
      refine g_iload_n (i := 1) K hl dX4_tries_132 rfl rfl ?_
      refine g_iload_n (i := 2) K hl dX4_tries_133 rfl rfl ?_
      refine g_iload_n (i := 3) K hl dX4_tries_134 rfl rfl ?_
      refine m_callVV K hl hF ha rfl (fun t h => w_miss G _ _ _ _ t h) rfl cp_miss q2117 rfl rfl rfl rfl rfl dX4_tries_135 (fun σ4 hF ha => ?_)
      refine g_iload (i := 5) K hl dX4_tries_138 rfl ?_
      obtain ⟨hz, hF⟩ := bzI_i hF
      exact m_zretW K hF hz ha dX4_tries_140
    · refine g_aload_n (i := 0) K hl dX4_tries_121 rfl rfl ?_
      refine g_iload_n (i := 1) K hl dX4_tries_122 rfl rfl ?_
      refine g_iload_n (i := 2) K hl dX4_tries_123 rfl rfl ?_
      refine g_iload_n (i := 3) K hl dX4_tries_124 rfl rfl ?_
      refine m_callVV K hl hF ha rfl (fun t h => w_get _ _ _ _ t h) rfl cp_get q2106 rfl rfl rfl rfl rfl dX4_tries_125 (fun σ5 hF ha => ?_)
      refine g_goto (tgt := 138) K dX4_tries_128 (by decide) ?_
      refine g_iload (i := 5) K hl dX4_tries_138 rfl ?_
      obtain ⟨hz, hF⟩ := bzI_i hF
      exact m_zretW K hF hz ha dX4_tries_140
  have L54 : ∀  (σ : MS) (x1 : Int32) (x2 : Int32) (x3 : Int32) (x4 : Int32) (s0 : Int32) (ls : Array Slot), M_tries_L54 G  σ x1 x2 x3 x4 s0 = some r → ag wr_tries σ0 σ → lq ls 7 [(0, some (.ref qm)), (1, some (.int x1)), (2, some (.int x2)), (3, some (.int x3)), (4, some (.int x4))] → ZM p l e 5 s m args below meth c D cz qm wr_tries σ0 (some (.int r.1)) r.2 σ (F0 m 54 ls [.int s0]) := by
    intro  σ x1 x2 x3 x4 s0 ls hF ha hl
    unfold M_tries_L54 at hF
    refine g_istore (i := 5) K hl dX4_tries_54 rfl rfl (fun ls hl => ?_)
    refine g_bipush K dX4_tries_56 lb_63 ?_
    refine g_bipush K dX4_tries_58 lb_15 ?_
    refine g_iload_n (i := 1) K hl dX4_tries_60 rfl rfl ?_
    refine g_imul K dX4_tries_61 ?_
    refine g_iadd K dX4_tries_62 ?_
    refine g_iconst K dX4_tries_63 lc_3 ?_
    refine g_iload_n (i := 3) K hl dX4_tries_64 rfl rfl ?_
    refine g_imul K dX4_tries_65 ?_
    refine g_iadd K dX4_tries_66 ?_
    refine g_istore (i := 6) K hl dX4_tries_67 rfl rfl (fun ls hl => ?_)
    refine g_aload_n (i := 0) K hl dX4_tries_69 rfl rfl ?_
    refine mget_66 K dX4_tries_70 ?_
    refine g_iload (i := 6) K hl dX4_tries_73 rfl ?_
    refine g_dup2 K dX4_tries_75 rfl rfl ?_
    refine mld_66 K hF dX4_tries_76 (fun t1 hF => ?_)
    refine g_iconst K dX4_tries_77 lc_1 ?_
    refine g_iadd K dX4_tries_78 ?_
    refine mst_66 K hF ha rfl dX4_tries_79 (fun σ2 hF ha => ?_)
    refine g_aload_n (i := 0) K hl dX4_tries_80 rfl rfl ?_
    refine mget_66 K dX4_tries_81 ?_
    refine g_iload (i := 6) K hl dX4_tries_84 rfl ?_
    refine g_iconst K dX4_tries_86 lc_1 ?_
    refine g_iadd K dX4_tries_87 ?_
    refine g_dup2 K dX4_tries_88 rfl rfl ?_
    refine mld_66 K hF dX4_tries_89 (fun t3 hF => ?_)
    refine g_iload (i := 5) K hl dX4_tries_90 rfl ?_
    refine g_if_eq (tgt := 99) K hF dX4_tries_92 (by decide) (fun hF => ?_) (fun hF => ?_)
    · refine g_iconst K dX4_tries_99 lc_0 ?_
      exact L100  _ _ _ _ _ _ _ _ _ _ ls hF ha (lq_sub hl rfl)
    · refine g_iconst K dX4_tries_95 lc_1 ?_
      refine g_goto (tgt := 100) K dX4_tries_96 (by decide) ?_
      exact L100  _ _ _ _ _ _ _ _ _ _ ls hF ha (lq_sub hl rfl)
  have ha : ag wr_tries σ0 σ0 := ag.rf
  unfold M_tries at hF
  refine g_aload_n (i := 0) K hl dX4_tries_0 rfl rfl ?_
  refine g_iload_n (i := 1) K hl dX4_tries_1 rfl rfl ?_
  refine g_iload_n (i := 2) K hl dX4_tries_2 rfl rfl ?_
  refine g_iload_n (i := 3) K hl dX4_tries_3 rfl rfl ?_
  refine m_callVW K hl hF ha rfl (fun t h => w_oddsOf G _ _ _ _ t h) rfl cp_oddsOf q2065 rfl rfl rfl rfl rfl dX4_tries_4 (fun t2 σ1 hF ha => ?_)
  refine g_istore (i := 4) K hl dX4_tries_7 rfl rfl (fun ls hl => ?_)
  refine g_aload_n (i := 0) K hl dX4_tries_9 rfl rfl ?_
  refine mget_66 K dX4_tries_10 ?_
  refine g_bipush K dX4_tries_13 lb_62 ?_
  refine g_aload_n (i := 0) K hl dX4_tries_15 rfl rfl ?_
  refine mget_66 K dX4_tries_16 ?_
  refine g_bipush K dX4_tries_19 lb_62 ?_
  refine mld_66 K hF dX4_tries_21 (fun t3 hF => ?_)
  refine g_sipush K dX4_tries_22 ls_137 ?_
  refine g_imul K dX4_tries_25 ?_
  refine g_bipush K dX4_tries_26 lb_71 ?_
  refine g_iadd K dX4_tries_28 ?_
  refine g_sipush K dX4_tries_29 ls_1000 ?_
  refine g_iremT K hF dX4_tries_32 (fun t4 hF => ?_)
  refine mst_66 K hF ha rfl dX4_tries_33 (fun σ5 hF ha => ?_)
  refine g_aload_n (i := 0) K hl dX4_tries_34 rfl rfl ?_
  refine mget_66 K dX4_tries_35 ?_
  refine g_bipush K dX4_tries_38 lb_62 ?_
  refine mld_66 K hF dX4_tries_40 (fun t6 hF => ?_)
  refine g_bipush K dX4_tries_41 lb_10 ?_
  refine g_idivT K hF dX4_tries_43 (fun t7 hF => ?_)
  refine g_iload (i := 4) K hl dX4_tries_44 rfl ?_
  refine g_icmp_ge (tgt := 53) K hF dX4_tries_46 (by decide) (fun hF => ?_) (fun hF => ?_)
  · refine g_iconst K dX4_tries_53 lc_0 ?_
    exact L54  _ _ _ _ _ _ ls hF ha (lq_sub hl rfl)
  · refine g_iconst K dX4_tries_49 lc_1 ?_
    refine g_goto (tgt := 54) K dX4_tries_50 (by decide) ?_
    exact L54  _ _ _ _ _ _ ls hF ha (lq_sub hl rfl)

theorem cp_breathes : cpV yX4_breathes cX4_breathes 2 none 1 := ⟨q2135, qs120, q152, q2136, by decide +kernel⟩
set_option maxHeartbeats 4000000 in
set_option maxRecDepth 100000 in
theorem w_breathes {l : Launch} {D : va_G} {cz : Nat → ClassId} {qm : Nat} (σ0 : MS) (a0 : Int32) (r : MS) (hF : M_breathes σ0 a0 = some r) : mMet l D cz qm yX4_breathes cX4_breathes 2 none 0 wr_breathes [.ref qm, .int a0] σ0 none r := by
  refine m_of (by decide) rfl ?_
  intro p e s m args below meth c ls K hl
  have ha : ag wr_breathes σ0 σ0 := ag.rf
  unfold M_breathes at hF
  refine g_aload_n (i := 0) K hl dX4_breathes_0 rfl rfl ?_
  refine mget_66 K dX4_breathes_1 ?_
  refine g_bipush K dX4_breathes_4 lb_50 ?_
  refine g_iconst K dX4_breathes_6 lc_3 ?_
  refine g_iload_n (i := 1) K hl dX4_breathes_7 rfl rfl ?_
  refine g_imul K dX4_breathes_8 ?_
  refine g_iadd K dX4_breathes_9 ?_
  refine g_aload_n (i := 0) K hl dX4_breathes_10 rfl rfl ?_
  refine mget_45 K dX4_breathes_11 ?_
  refine g_iload_n (i := 1) K hl dX4_breathes_14 rfl rfl ?_
  refine mld_45 K hF dX4_breathes_15 (fun t1 hF => ?_)
  refine mst_66 K hF ha rfl dX4_breathes_16 (fun σ2 hF ha => ?_)
  refine g_aload_n (i := 0) K hl dX4_breathes_17 rfl rfl ?_
  refine mget_66 K dX4_breathes_18 ?_
  refine g_bipush K dX4_breathes_21 lb_52 ?_
  refine g_iconst K dX4_breathes_23 lc_3 ?_
  refine g_iload_n (i := 1) K hl dX4_breathes_24 rfl rfl ?_
  refine g_imul K dX4_breathes_25 ?_
  refine g_iadd K dX4_breathes_26 ?_
  refine g_dup2 K dX4_breathes_27 rfl rfl ?_
  refine mld_66 K hF dX4_breathes_28 (fun t3 hF => ?_)
  refine g_iconst K dX4_breathes_29 lc_2 ?_
  refine g_iadd K dX4_breathes_30 ?_
  refine mst_66 K hF ha rfl dX4_breathes_31 (fun σ4 hF ha => ?_)
  exact m_vretV K hF ha dX4_breathes_32

theorem cp_choice : cpV yX4_choice cX4_choice 7 (some .int) 2 := ⟨q2089, qs112, q152, q2090, by decide +kernel⟩
set_option maxHeartbeats 4000000 in
set_option maxRecDepth 100000 in
theorem w_choice {l : Launch} {D : va_G} {cz : Nat → ClassId} {qm : Nat} (G : Nat) (σ0 : MS) (a0 : Int32) (a1 : Int32) (r : (Int32 × MS)) (hF : M_choice G σ0 a0 a1 = some r) : mMet l D cz qm yX4_choice cX4_choice 7 (some .int) 5 wr_choice [.ref qm, .int a0, .int a1] σ0 (some (.int r.1)) r.2 := by
  refine m_of (by decide) rfl ?_
  intro p e s m args below meth c ls K hl
  have L78 : ∀ (k8 : MS → Int32 → Int32 → Int32 → Int32 → Int32 → Option (Int32 × MS)) (hk8 : (∀ (σ : MS) (x1 : Int32) (x2 : Int32) (x3 : Int32) (x4 : Int32) (x5 : Int32) (ls : Array Slot), k8 σ x1 x2 x3 x4 x5 = some r → ag wr_choice σ0 σ → lq ls 7 [(0, some (.ref qm)), (1, some (.int x1)), (2, some (.int x2)), (3, some (.int x3)), (4, some (.int x4)), (5, some (.int x5))] → ZM p l e 5 s m args below meth c D cz qm wr_choice σ0 (some (.int r.1)) r.2 σ (F0 m 8 ls []))) (σ : MS) (x1 : Int32) (x2 : Int32) (x3 : Int32) (x4 : Int32) (x5 : Int32) (s0 : Int32) (ls : Array Slot), M_choice_L78 G k8 σ x1 x2 x3 x4 x5 s0 = some r → ag wr_choice σ0 σ → lq ls 7 [(0, some (.ref qm)), (1, some (.int x1)), (2, some (.int x2)), (3, some (.int x3)), (4, some (.int x4)), (5, some (.int x5))] → ZM p l e 5 s m args below meth c D cz qm wr_choice σ0 (some (.int r.1)) r.2 σ (F0 m 78 ls [.int s0]) := by
    intro k8 hk8 σ x1 x2 x3 x4 x5 s0 ls hF ha hl
    unfold M_choice_L78 at hF
    refine g_istore (i := 6) K hl dX4_choice_78 rfl rfl (fun ls hl => ?_)
    refine g_iload_n (i := 3) K hl dX4_choice_80 rfl rfl ?_
    refine g_if_lt (tgt := 94) K hF dX4_choice_81 (by decide) (fun hF => ?_) (fun hF => ?_)
    · refine g_iload (i := 5) K hl dX4_choice_94 rfl ?_
      refine g_istore_n (i := 3) K hl dX4_choice_96 rfl rfl rfl (fun ls hl => ?_)
      refine g_iload (i := 6) K hl dX4_choice_97 rfl ?_
      refine g_istore (i := 4) K hl dX4_choice_99 rfl rfl (fun ls hl => ?_)
      refine g_iinc (i := 5) K hl dX4_choice_101 rfl lc_1 rfl rfl (fun ls hl => ?_)
      refine g_goto (tgt := 8) K dX4_choice_104 (by decide) ?_
      exact hk8 _ _ _ _ _ _ ls hF ha (lq_sub hl rfl)
    · refine g_iload (i := 6) K hl dX4_choice_84 rfl ?_
      refine g_iload (i := 4) K hl dX4_choice_86 rfl ?_
      refine g_icmp_gt (tgt := 94) K hF dX4_choice_88 (by decide) (fun hF => ?_) (fun hF => ?_)
      · refine g_iload (i := 5) K hl dX4_choice_94 rfl ?_
        refine g_istore_n (i := 3) K hl dX4_choice_96 rfl rfl rfl (fun ls hl => ?_)
        refine g_iload (i := 6) K hl dX4_choice_97 rfl ?_
        refine g_istore (i := 4) K hl dX4_choice_99 rfl rfl (fun ls hl => ?_)
        refine g_iinc (i := 5) K hl dX4_choice_101 rfl lc_1 rfl rfl (fun ls hl => ?_)
        refine g_goto (tgt := 8) K dX4_choice_104 (by decide) ?_
        exact hk8 _ _ _ _ _ _ ls hF ha (lq_sub hl rfl)
      · refine g_goto (tgt := 101) K dX4_choice_91 (by decide) ?_
        refine g_iinc (i := 5) K hl dX4_choice_101 rfl lc_1 rfl rfl (fun ls hl => ?_)
        refine g_goto (tgt := 8) K dX4_choice_104 (by decide) ?_
        exact hk8 _ _ _ _ _ _ ls hF ha (lq_sub hl rfl)
  have B8 : ∀ (k8 : MS → Int32 → Int32 → Int32 → Int32 → Int32 → Option (Int32 × MS)) (hk8 : (∀ (σ : MS) (x1 : Int32) (x2 : Int32) (x3 : Int32) (x4 : Int32) (x5 : Int32) (ls : Array Slot), k8 σ x1 x2 x3 x4 x5 = some r → ag wr_choice σ0 σ → lq ls 7 [(0, some (.ref qm)), (1, some (.int x1)), (2, some (.int x2)), (3, some (.int x3)), (4, some (.int x4)), (5, some (.int x5))] → ZM p l e 5 s m args below meth c D cz qm wr_choice σ0 (some (.int r.1)) r.2 σ (F0 m 8 ls []))) (σ : MS) (x1 : Int32) (x2 : Int32) (x3 : Int32) (x4 : Int32) (x5 : Int32) (ls : Array Slot), M_choice_B8 G k8 σ x1 x2 x3 x4 x5 = some r → ag wr_choice σ0 σ → lq ls 7 [(0, some (.ref qm)), (1, some (.int x1)), (2, some (.int x2)), (3, some (.int x3)), (4, some (.int x4)), (5, some (.int x5))] → ZM p l e 5 s m args below meth c D cz qm wr_choice σ0 (some (.int r.1)) r.2 σ (F0 m 8 ls []) := by
    intro k8 hk8 σ x1 x2 x3 x4 x5 ls hF ha hl
    unfold M_choice_B8 at hF
    refine g_iload (i := 5) K hl dX4_choice_8 rfl ?_
    refine g_iconst K dX4_choice_10 lc_5 ?_
    refine g_aload_n (i := 0) K hl dX4_choice_11 rfl rfl ?_
    refine mget_60 K dX4_choice_12 ?_
    refine g_imul K dX4_choice_15 ?_
    refine g_icmp_ge (tgt := 107) K hF dX4_choice_16 (by decide) (fun hF => ?_) (fun hF => ?_)
    · refine g_iload_n (i := 3) K hl dX4_choice_107 rfl rfl ?_
      exact m_iretW K hF ha dX4_choice_108
    · refine g_aload_n (i := 0) K hl dX4_choice_19 rfl rfl ?_
      refine g_iload_n (i := 1) K hl dX4_choice_20 rfl rfl ?_
      refine g_iload (i := 5) K hl dX4_choice_21 rfl ?_
      refine g_iconst K dX4_choice_23 lc_5 ?_
      refine g_idivT K hF dX4_choice_24 (fun t1 hF => ?_)
      refine g_iload (i := 5) K hl dX4_choice_25 rfl ?_
      refine g_iconst K dX4_choice_27 lc_5 ?_
      refine g_iremT K hF dX4_choice_28 (fun t2 hF => ?_)
      refine m_callVW K hl hF ha rfl (fun t h => w_canTry G _ _ _ _ t h) rfl cp_canTry q2031 rfl rfl rfl rfl rfl dX4_choice_29 (fun t4 σ3 hF ha => ?_)
      refine g_if_ne (tgt := 38) K hF dX4_choice_32 (by decide) (fun hF => ?_) (fun hF => ?_)
      · refine g_aload_n (i := 0) K hl dX4_choice_38 rfl rfl ?_
        refine mget_59 K dX4_choice_39 ?_
        refine g_if_ne (tgt := 49) K hF dX4_choice_42 (by decide) (fun hF => ?_) (fun hF => ?_)
        · refine g_aload_n (i := 0) K hl dX4_choice_49 rfl rfl ?_
          refine g_iconst K dX4_choice_50 lc_5 ?_
          refine g_iload_n (i := 2) K hl dX4_choice_51 rfl rfl ?_
          refine g_iadd K dX4_choice_52 ?_
          refine g_iload_n (i := 1) K hl dX4_choice_53 rfl rfl ?_
          refine g_iload (i := 5) K hl dX4_choice_54 rfl ?_
          refine g_iconst K dX4_choice_56 lc_5 ?_
          refine g_idivT K hF dX4_choice_57 (fun t5 hF => ?_)
          refine g_iload (i := 5) K hl dX4_choice_58 rfl ?_
          refine g_iconst K dX4_choice_60 lc_5 ?_
          refine g_iremT K hF dX4_choice_61 (fun t6 hF => ?_)
          refine g_aload_n (i := 0) K hl dX4_choice_62 rfl rfl ?_
          refine g_iload_n (i := 1) K hl dX4_choice_63 rfl rfl ?_
          refine g_iload (i := 5) K hl dX4_choice_64 rfl ?_
          refine g_iconst K dX4_choice_66 lc_5 ?_
          refine g_idivT K hF dX4_choice_67 (fun t7 hF => ?_)
          refine g_iload (i := 5) K hl dX4_choice_68 rfl ?_
          refine g_iconst K dX4_choice_70 lc_5 ?_
          refine g_iremT K hF dX4_choice_71 (fun t8 hF => ?_)
          refine m_callVW K hl hF ha rfl (fun t h => w_oddsOf G _ _ _ _ t h) rfl cp_oddsOf q2065 rfl rfl rfl rfl rfl dX4_choice_72 (fun t10 σ9 hF ha => ?_)
          refine m_callVW K hl hF ha rfl (fun t h => w_worked G _ _ _ _ _ _ t h) rfl cp_worked q2069 rfl rfl rfl rfl rfl dX4_choice_75 (fun t12 σ11 hF ha => ?_)
          exact L78 k8 hk8 _ _ _ _ _ _ _ ls hF ha (lq_sub hl rfl)
        · refine g_iconst K dX4_choice_45 lc_0 ?_
          refine g_goto (tgt := 78) K dX4_choice_46 (by decide) ?_
          exact L78 k8 hk8 _ _ _ _ _ _ _ ls hF ha (lq_sub hl rfl)
      · refine g_goto (tgt := 101) K dX4_choice_35 (by decide) ?_
        refine g_iinc (i := 5) K hl dX4_choice_101 rfl lc_1 rfl rfl (fun ls hl => ?_)
        refine g_goto (tgt := 8) K dX4_choice_104 (by decide) ?_
        exact hk8 _ _ _ _ _ _ ls hF ha (lq_sub hl rfl)
  have L8 : ∀  (n : Nat) (σ : MS) (x1 : Int32) (x2 : Int32) (x3 : Int32) (x4 : Int32) (x5 : Int32) (ls : Array Slot), M_choice_L8 G  n σ x1 x2 x3 x4 x5 = some r → ag wr_choice σ0 σ → lq ls 7 [(0, some (.ref qm)), (1, some (.int x1)), (2, some (.int x2)), (3, some (.int x3)), (4, some (.int x4)), (5, some (.int x5))] → ZM p l e 5 s m args below meth c D cz qm wr_choice σ0 (some (.int r.1)) r.2 σ (F0 m 8 ls []) := by
    intro  n
    induction n with
    | zero => intro σ x1 x2 x3 x4 x5 ls hF; exact absurd hF (fun h => by cases h)
    | succ n ih => intro σ x1 x2 x3 x4 x5 ls hF ha hl; exact B8  _ ih _ _ _ _ _ _ ls hF ha hl
  have ha : ag wr_choice σ0 σ0 := ag.rf
  unfold M_choice at hF
  refine g_iconst K dX4_choice_0 lc_m1 ?_
  refine g_istore_n (i := 3) K hl dX4_choice_1 rfl rfl rfl (fun ls hl => ?_)
  refine g_iconst K dX4_choice_2 lc_0 ?_
  refine g_istore (i := 4) K hl dX4_choice_3 rfl rfl (fun ls hl => ?_)
  refine g_iconst K dX4_choice_5 lc_0 ?_
  refine g_istore (i := 5) K hl dX4_choice_6 rfl rfl (fun ls hl => ?_)
  exact L8  G _ _ _ _ _ _ ls hF ha (lq_sub hl rfl)

theorem cp_actsBy : cpV yX4_actsBy cX4_actsBy 4 (some .boolean) 2 := ⟨q2155, qs123, q152, q2156, by decide +kernel⟩
set_option maxHeartbeats 4000000 in
set_option maxRecDepth 100000 in
theorem w_actsBy {l : Launch} {D : va_G} {cz : Nat → ClassId} {qm : Nat} (G : Nat) (σ0 : MS) (a0 : Int32) (a1 : Int32) (r : (Int32 × MS)) (hF : M_actsBy G σ0 a0 a1 = some r) : mMet l D cz qm yX4_actsBy cX4_actsBy 4 (some .boolean) 6 wr_actsBy [.ref qm, .int a0, .int a1] σ0 (some (.int r.1)) r.2 := by
  refine m_of (by decide) rfl ?_
  intro p e s m args below meth c ls K hl
  have ha : ag wr_actsBy σ0 σ0 := ag.rf
  unfold M_actsBy at hF
  refine g_aload_n (i := 0) K hl dX4_actsBy_0 rfl rfl ?_
  refine g_iload_n (i := 1) K hl dX4_actsBy_1 rfl rfl ?_
  refine g_iload_n (i := 2) K hl dX4_actsBy_2 rfl rfl ?_
  refine m_callVW K hl hF ha rfl (fun t h => w_choice G _ _ _ t h) rfl cp_choice q2087 rfl rfl rfl rfl rfl dX4_actsBy_3 (fun t2 σ1 hF ha => ?_)
  refine g_istore_n (i := 3) K hl dX4_actsBy_6 rfl rfl rfl (fun ls hl => ?_)
  refine g_iload_n (i := 3) K hl dX4_actsBy_7 rfl rfl ?_
  refine g_if_lt (tgt := 23) K hF dX4_actsBy_8 (by decide) (fun hF => ?_) (fun hF => ?_)
  · refine g_aload_n (i := 0) K hl dX4_actsBy_23 rfl rfl ?_
    refine g_iload_n (i := 1) K hl dX4_actsBy_24 rfl rfl ?_
    refine m_callVV K hl hF ha rfl (fun t h => w_breathes _ _ t h) rfl cp_breathes q2133 rfl rfl rfl rfl rfl dX4_actsBy_25 (fun σ3 hF ha => ?_)
    refine g_iconst K dX4_actsBy_28 lc_0 ?_
    exact m_zretW K hF (Or.inl rfl) ha dX4_actsBy_29
  · refine g_aload_n (i := 0) K hl dX4_actsBy_11 rfl rfl ?_
    refine g_iload_n (i := 1) K hl dX4_actsBy_12 rfl rfl ?_
    refine g_iload_n (i := 3) K hl dX4_actsBy_13 rfl rfl ?_
    refine g_iconst K dX4_actsBy_14 lc_5 ?_
    refine g_idivT K hF dX4_actsBy_15 (fun t4 hF => ?_)
    refine g_iload_n (i := 3) K hl dX4_actsBy_16 rfl rfl ?_
    refine g_iconst K dX4_actsBy_17 lc_5 ?_
    refine g_iremT K hF dX4_actsBy_18 (fun t5 hF => ?_)
    refine m_callVW K hl hF ha rfl (fun t h => w_tries G _ _ _ _ t h) rfl cp_tries q2102 rfl rfl rfl rfl rfl dX4_actsBy_19 (fun t7 σ6 hF ha => ?_)
    obtain ⟨hz, hF⟩ := bzI_i hF
    exact m_zretW K hF hz ha dX4_actsBy_22

theorem cp_afloatAll : cpV yX4_afloatAll cX4_afloatAll 3 (some .int) 0 := ⟨q2240, qs135, q152, q2241, by decide +kernel⟩
set_option maxHeartbeats 4000000 in
set_option maxRecDepth 100000 in
theorem w_afloatAll {l : Launch} {D : va_G} {cz : Nat → ClassId} {qm : Nat} (G : Nat) (σ0 : MS)  (r : Int32) (hF : M_afloatAll G σ0 = some r) : mMet l D cz qm yX4_afloatAll cX4_afloatAll 3 (some .int) 1 wr_afloatAll [.ref qm] σ0 (some (.int r)) σ0 := by
  refine m_of (by decide) rfl ?_
  intro p e s m args below meth c ls K hl
  have B4 : ∀ (k4 : Int32 → Int32 → Option Int32) (hk4 : (∀ (x1 : Int32) (x2 : Int32) (ls : Array Slot), k4 x1 x2 = some r → lq ls 3 [(0, some (.ref qm)), (1, some (.int x1)), (2, some (.int x2))] → ZM p l e 1 s m args below meth c D cz qm wr_afloatAll σ0 (some (.int r)) σ0 σ0 (F0 m 4 ls []))) (x1 : Int32) (x2 : Int32) (ls : Array Slot), M_afloatAll_B4 G σ0 k4 x1 x2 = some r → lq ls 3 [(0, some (.ref qm)), (1, some (.int x1)), (2, some (.int x2))] → ZM p l e 1 s m args below meth c D cz qm wr_afloatAll σ0 (some (.int r)) σ0 σ0 (F0 m 4 ls []) := by
    intro k4 hk4 x1 x2 ls hF hl
    unfold M_afloatAll_B4 at hF
    refine g_iload_n (i := 2) K hl dX4_afloatAll_4 rfl rfl ?_
    refine g_aload_n (i := 0) K hl dX4_afloatAll_5 rfl rfl ?_
    refine mget_60 K dX4_afloatAll_6 ?_
    refine g_icmp_ge (tgt := 34) K hF dX4_afloatAll_9 (by decide) (fun hF => ?_) (fun hF => ?_)
    · refine g_iload_n (i := 1) K hl dX4_afloatAll_34 rfl rfl ?_
      exact m_iretP K hF ag.rf dX4_afloatAll_35
    · refine g_iload_n (i := 1) K hl dX4_afloatAll_12 rfl rfl ?_
      refine g_aload_n (i := 0) K hl dX4_afloatAll_13 rfl rfl ?_
      refine g_iload_n (i := 2) K hl dX4_afloatAll_14 rfl rfl ?_
      refine m_callVP K hl hF (fun t h => w_isAfloat _ _ t h) rfl cp_isAfloat q2035 rfl rfl rfl rfl rfl dX4_afloatAll_15 (fun t1 hF => ?_)
      refine g_if_eq (tgt := 25) K hF dX4_afloatAll_18 (by decide) (fun hF => ?_) (fun hF => ?_)
      · refine g_iconst K dX4_afloatAll_25 lc_0 ?_
        refine g_iadd K dX4_afloatAll_26 ?_
        refine g_istore_n (i := 1) K hl dX4_afloatAll_27 rfl rfl rfl (fun ls hl => ?_)
        refine g_iinc (i := 2) K hl dX4_afloatAll_28 rfl lc_1 rfl rfl (fun ls hl => ?_)
        refine g_goto (tgt := 4) K dX4_afloatAll_31 (by decide) ?_
        exact hk4 _ _ ls hF (lq_sub hl rfl)
      · refine g_iconst K dX4_afloatAll_21 lc_1 ?_
        refine g_goto (tgt := 26) K dX4_afloatAll_22 (by decide) ?_
        refine g_iadd K dX4_afloatAll_26 ?_
        refine g_istore_n (i := 1) K hl dX4_afloatAll_27 rfl rfl rfl (fun ls hl => ?_)
        refine g_iinc (i := 2) K hl dX4_afloatAll_28 rfl lc_1 rfl rfl (fun ls hl => ?_)
        refine g_goto (tgt := 4) K dX4_afloatAll_31 (by decide) ?_
        exact hk4 _ _ ls hF (lq_sub hl rfl)
  have L4 : ∀  (n : Nat) (x1 : Int32) (x2 : Int32) (ls : Array Slot), M_afloatAll_L4 G σ0  n x1 x2 = some r → lq ls 3 [(0, some (.ref qm)), (1, some (.int x1)), (2, some (.int x2))] → ZM p l e 1 s m args below meth c D cz qm wr_afloatAll σ0 (some (.int r)) σ0 σ0 (F0 m 4 ls []) := by
    intro  n
    induction n with
    | zero => intro x1 x2 ls hF; exact absurd hF (fun h => by cases h)
    | succ n ih => intro x1 x2 ls hF hl; exact B4  _ ih _ _ ls hF hl
  unfold M_afloatAll at hF
  refine g_iconst K dX4_afloatAll_0 lc_0 ?_
  refine g_istore_n (i := 1) K hl dX4_afloatAll_1 rfl rfl rfl (fun ls hl => ?_)
  refine g_iconst K dX4_afloatAll_2 lc_0 ?_
  refine g_istore_n (i := 2) K hl dX4_afloatAll_3 rfl rfl rfl (fun ls hl => ?_)
  exact L4  G _ _ ls hF (lq_sub hl rfl)

theorem cp_apple : cpV yX4_apple cX4_apple 3 (some .int) 2 := ⟨q2001, q2002, q152, q2003, by decide +kernel⟩
set_option maxHeartbeats 4000000 in
set_option maxRecDepth 100000 in
theorem w_apple {l : Launch} {D : va_G} {cz : Nat → ClassId} {qm : Nat} (σ0 : MS) (a0 : Int32) (a1 : Int32) (r : Int32) (hF : M_apple σ0 a0 a1 = some r) : mMet l D cz qm yX4_apple cX4_apple 3 (some .int) 2 wr_apple [.ref qm, .int a0, .int a1] σ0 (some (.int r)) σ0 := by
  refine m_of (by decide) rfl ?_
  intro p e s m args below meth c ls K hl
  unfold M_apple at hF
  refine g_aload_n (i := 0) K hl dX4_apple_0 rfl rfl ?_
  refine g_iload_n (i := 1) K hl dX4_apple_1 rfl rfl ?_
  refine m_callVP K hl hF (fun t h => w_isApple _ _ t h) rfl cp_isApple q2004 rfl rfl rfl rfl rfl dX4_apple_2 (fun t1 hF => ?_)
  refine g_if_eq (tgt := 30) K hF dX4_apple_5 (by decide) (fun hF => ?_) (fun hF => ?_)
  · refine g_bipush K dX4_apple_30 lb_m2 ?_
    exact m_iretP K hF ag.rf dX4_apple_32
  · refine g_iload_n (i := 2) K hl dX4_apple_8 rfl rfl ?_
    refine g_iconst K dX4_apple_9 lc_0 ?_
    refine g_iconst K dX4_apple_10 lc_4 ?_
    refine m_callSP K hl hF (fun t h => w_isIn _ _ _ _ t h) cp_isIn q2008 rfl rfl rfl rfl rfl dX4_apple_11 (fun t2 hF => ?_)
    refine g_if_eq (tgt := 30) K hF dX4_apple_14 (by decide) (fun hF => ?_) (fun hF => ?_)
    · refine g_bipush K dX4_apple_30 lb_m2 ?_
      exact m_iretP K hF ag.rf dX4_apple_32
    · refine g_aload_n (i := 0) K hl dX4_apple_17 rfl rfl ?_
      refine mget_67 K dX4_apple_18 ?_
      refine g_iconst K dX4_apple_21 lc_5 ?_
      refine g_iload_n (i := 1) K hl dX4_apple_22 rfl rfl ?_
      refine g_imul K dX4_apple_23 ?_
      refine g_iload_n (i := 2) K hl dX4_apple_24 rfl rfl ?_
      refine g_iadd K dX4_apple_25 ?_
      refine mld_67 K hF dX4_apple_26 (fun t3 hF => ?_)
      refine g_goto (tgt := 32) K dX4_apple_27 (by decide) ?_
      exact m_iretP K hF ag.rf dX4_apple_32

theorem cp_bobber : cpV yX4_bobber cX4_bobber 3 (some .int) 2 := ⟨q2012, q2013, q152, q2014, by decide +kernel⟩
set_option maxHeartbeats 4000000 in
set_option maxRecDepth 100000 in
theorem w_bobber {l : Launch} {D : va_G} {cz : Nat → ClassId} {qm : Nat} (σ0 : MS) (a0 : Int32) (a1 : Int32) (r : Int32) (hF : M_bobber σ0 a0 a1 = some r) : mMet l D cz qm yX4_bobber cX4_bobber 3 (some .int) 2 wr_bobber [.ref qm, .int a0, .int a1] σ0 (some (.int r)) σ0 := by
  refine m_of (by decide) rfl ?_
  intro p e s m args below meth c ls K hl
  unfold M_bobber at hF
  refine g_aload_n (i := 0) K hl dX4_bobber_0 rfl rfl ?_
  refine g_iload_n (i := 1) K hl dX4_bobber_1 rfl rfl ?_
  refine m_callVP K hl hF (fun t h => w_isBobber _ _ t h) rfl cp_isBobber q2015 rfl rfl rfl rfl rfl dX4_bobber_2 (fun t1 hF => ?_)
  refine g_if_eq (tgt := 33) K hF dX4_bobber_5 (by decide) (fun hF => ?_) (fun hF => ?_)
  · refine g_iconst K dX4_bobber_33 lc_m1 ?_
    exact m_iretP K hF ag.rf dX4_bobber_34
  · refine g_iload_n (i := 2) K hl dX4_bobber_8 rfl rfl ?_
    refine g_iconst K dX4_bobber_9 lc_0 ?_
    refine g_iconst K dX4_bobber_10 lc_2 ?_
    refine m_callSP K hl hF (fun t h => w_isIn _ _ _ _ t h) cp_isIn q2008 rfl rfl rfl rfl rfl dX4_bobber_11 (fun t2 hF => ?_)
    refine g_if_eq (tgt := 33) K hF dX4_bobber_14 (by decide) (fun hF => ?_) (fun hF => ?_)
    · refine g_iconst K dX4_bobber_33 lc_m1 ?_
      exact m_iretP K hF ag.rf dX4_bobber_34
    · refine g_aload_n (i := 0) K hl dX4_bobber_17 rfl rfl ?_
      refine mget_67 K dX4_bobber_18 ?_
      refine g_bipush K dX4_bobber_21 lb_50 ?_
      refine g_iconst K dX4_bobber_23 lc_3 ?_
      refine g_iload_n (i := 1) K hl dX4_bobber_24 rfl rfl ?_
      refine g_imul K dX4_bobber_25 ?_
      refine g_iadd K dX4_bobber_26 ?_
      refine g_iload_n (i := 2) K hl dX4_bobber_27 rfl rfl ?_
      refine g_iadd K dX4_bobber_28 ?_
      refine mld_67 K hF dX4_bobber_29 (fun t3 hF => ?_)
      refine g_goto (tgt := 34) K dX4_bobber_30 (by decide) ?_
      exact m_iretP K hF ag.rf dX4_bobber_34

theorem cp_mayTry : cpV yX4_mayTry cX4_mayTry 4 (some .boolean) 3 := ⟨q2025, qs100, q152, q2026, by decide +kernel⟩
set_option maxHeartbeats 4000000 in
set_option maxRecDepth 100000 in
theorem w_mayTry {l : Launch} {D : va_G} {cz : Nat → ClassId} {qm : Nat} (G : Nat) (σ0 : MS) (a0 : Int32) (a1 : Int32) (a2 : Int32) (r : (Int32 × MS)) (hF : M_mayTry G σ0 a0 a1 a2 = some r) : mMet l D cz qm yX4_mayTry cX4_mayTry 4 (some .boolean) 4 wr_mayTry [.ref qm, .int a0, .int a1, .int a2] σ0 (some (.int r.1)) r.2 := by
  refine m_of (by decide) rfl ?_
  intro p e s m args below meth c ls K hl
  have ha : ag wr_mayTry σ0 σ0 := ag.rf
  unfold M_mayTry at hF
  refine g_aload_n (i := 0) K hl dX4_mayTry_0 rfl rfl ?_
  refine m_callVV K hl hF ha rfl (fun t h => w_load G _  t h) rfl cp_load q2027 rfl rfl rfl rfl rfl dX4_mayTry_1 (fun σ1 hF ha => ?_)
  refine g_aload_n (i := 0) K hl dX4_mayTry_4 rfl rfl ?_
  refine g_iload_n (i := 1) K hl dX4_mayTry_5 rfl rfl ?_
  refine m_callVP K hl hF (fun t h => w_isBobber _ _ t h) rfl cp_isBobber q2015 rfl rfl rfl rfl rfl dX4_mayTry_6 (fun t2 hF => ?_)
  refine g_if_eq (tgt := 43) K hF dX4_mayTry_9 (by decide) (fun hF => ?_) (fun hF => ?_)
  · refine g_iconst K dX4_mayTry_43 lc_0 ?_
    exact m_zretW K hF (Or.inl rfl) ha dX4_mayTry_44
  · refine g_aload_n (i := 0) K hl dX4_mayTry_12 rfl rfl ?_
    refine g_iload_n (i := 2) K hl dX4_mayTry_13 rfl rfl ?_
    refine m_callVP K hl hF (fun t h => w_isApple _ _ t h) rfl cp_isApple q2004 rfl rfl rfl rfl rfl dX4_mayTry_14 (fun t3 hF => ?_)
    refine g_if_eq (tgt := 43) K hF dX4_mayTry_17 (by decide) (fun hF => ?_) (fun hF => ?_)
    · refine g_iconst K dX4_mayTry_43 lc_0 ?_
      exact m_zretW K hF (Or.inl rfl) ha dX4_mayTry_44
    · refine g_iload_n (i := 3) K hl dX4_mayTry_20 rfl rfl ?_
      refine g_iconst K dX4_mayTry_21 lc_0 ?_
      refine g_iconst K dX4_mayTry_22 lc_4 ?_
      refine m_callSP K hl hF (fun t h => w_isIn _ _ _ _ t h) cp_isIn q2008 rfl rfl rfl rfl rfl dX4_mayTry_23 (fun t4 hF => ?_)
      refine g_if_eq (tgt := 43) K hF dX4_mayTry_26 (by decide) (fun hF => ?_) (fun hF => ?_)
      · refine g_iconst K dX4_mayTry_43 lc_0 ?_
        exact m_zretW K hF (Or.inl rfl) ha dX4_mayTry_44
      · refine g_aload_n (i := 0) K hl dX4_mayTry_29 rfl rfl ?_
        refine g_iload_n (i := 1) K hl dX4_mayTry_30 rfl rfl ?_
        refine g_iload_n (i := 2) K hl dX4_mayTry_31 rfl rfl ?_
        refine g_iload_n (i := 3) K hl dX4_mayTry_32 rfl rfl ?_
        refine m_callVW K hl hF ha rfl (fun t h => w_canTry G _ _ _ _ t h) rfl cp_canTry q2031 rfl rfl rfl rfl rfl dX4_mayTry_33 (fun t6 σ5 hF ha => ?_)
        refine g_if_eq (tgt := 43) K hF dX4_mayTry_36 (by decide) (fun hF => ?_) (fun hF => ?_)
        · refine g_iconst K dX4_mayTry_43 lc_0 ?_
          exact m_zretW K hF (Or.inl rfl) ha dX4_mayTry_44
        · refine g_iconst K dX4_mayTry_39 lc_1 ?_
          refine g_goto (tgt := 44) K dX4_mayTry_40 (by decide) ?_
          exact m_zretW K hF (Or.inr rfl) ha dX4_mayTry_44

theorem cp_odds : cpV yX4_odds cX4_odds 4 (some .int) 3 := ⟨q2020, q2021, q152, q2022, by decide +kernel⟩
set_option maxHeartbeats 4000000 in
set_option maxRecDepth 100000 in
theorem w_odds {l : Launch} {D : va_G} {cz : Nat → ClassId} {qm : Nat} (G : Nat) (σ0 : MS) (a0 : Int32) (a1 : Int32) (a2 : Int32) (r : (Int32 × MS)) (hF : M_odds G σ0 a0 a1 a2 = some r) : mMet l D cz qm yX4_odds cX4_odds 4 (some .int) 5 wr_odds [.ref qm, .int a0, .int a1, .int a2] σ0 (some (.int r.1)) r.2 := by
  refine m_of (by decide) rfl ?_
  intro p e s m args below meth c ls K hl
  have ha : ag wr_odds σ0 σ0 := ag.rf
  unfold M_odds at hF
  refine g_aload_n (i := 0) K hl dX4_odds_0 rfl rfl ?_
  refine g_iload_n (i := 1) K hl dX4_odds_1 rfl rfl ?_
  refine g_iload_n (i := 2) K hl dX4_odds_2 rfl rfl ?_
  refine g_iload_n (i := 3) K hl dX4_odds_3 rfl rfl ?_
  refine m_callVW K hl hF ha rfl (fun t h => w_mayTry G _ _ _ _ t h) rfl cp_mayTry q2023 rfl rfl rfl rfl rfl dX4_odds_4 (fun t2 σ1 hF ha => ?_)
  refine g_if_eq (tgt := 20) K hF dX4_odds_7 (by decide) (fun hF => ?_) (fun hF => ?_)
  · refine g_iconst K dX4_odds_20 lc_m1 ?_
    exact m_iretW K hF ha dX4_odds_21
  · refine g_aload_n (i := 0) K hl dX4_odds_10 rfl rfl ?_
    refine g_iload_n (i := 1) K hl dX4_odds_11 rfl rfl ?_
    refine g_iload_n (i := 2) K hl dX4_odds_12 rfl rfl ?_
    refine g_iload_n (i := 3) K hl dX4_odds_13 rfl rfl ?_
    refine m_callVW K hl hF ha rfl (fun t h => w_oddsOf G _ _ _ _ t h) rfl cp_oddsOf q2065 rfl rfl rfl rfl rfl dX4_odds_14 (fun t4 σ3 hF ha => ?_)
    refine g_goto (tgt := 21) K dX4_odds_17 (by decide) ?_
    exact m_iretW K hF ha dX4_odds_21

theorem cp_told10 : cpS yX4_told10 cX4_told10 1 (some .int) 1 := ⟨q2092, q152, q2093, by decide +kernel⟩
set_option maxHeartbeats 4000000 in
set_option maxRecDepth 100000 in
theorem w_told10 {l : Launch} {D : va_G} {cz : Nat → ClassId} {qm : Nat} (σ0 : MS) (a0 : Int32) (r : Int32) (hF : M_told10 a0 = some r) : mMet l D cz qm yX4_told10 cX4_told10 1 (some .int) 0 wr_told10 [.int a0] σ0 (some (.int r)) σ0 := by
  refine m_of (by decide) rfl ?_
  intro p e s m args below meth c ls K hl
  unfold M_told10 at hF
  refine g_iload_n (i := 0) K hl dX4_told10_0 rfl rfl ?_
  refine g_if_ge (tgt := 8) K hF dX4_told10_1 (by decide) (fun hF => ?_) (fun hF => ?_)
  · refine g_bipush K dX4_told10_8 lb_10 ?_
    refine g_iload_n (i := 0) K hl dX4_told10_10 rfl rfl ?_
    refine g_iconst K dX4_told10_11 lc_5 ?_
    refine g_idivT K hF dX4_told10_12 (fun t1 hF => ?_)
    refine g_imul K dX4_told10_13 ?_
    refine g_iload_n (i := 0) K hl dX4_told10_14 rfl rfl ?_
    refine g_iconst K dX4_told10_15 lc_5 ?_
    refine g_iremT K hF dX4_told10_16 (fun t2 hF => ?_)
    refine g_iadd K dX4_told10_17 ?_
    exact m_iretP K hF ag.rf dX4_told10_18
  · refine g_iconst K dX4_told10_4 lc_m1 ?_
    refine g_goto (tgt := 18) K dX4_told10_5 (by decide) ?_
    exact m_iretP K hF ag.rf dX4_told10_18

theorem cp_chooses : cpV yX4_chooses cX4_chooses 2 (some .int) 1 := ⟨q2084, q2085, q152, q2086, by decide +kernel⟩
set_option maxHeartbeats 4000000 in
set_option maxRecDepth 100000 in
theorem w_chooses {l : Launch} {D : va_G} {cz : Nat → ClassId} {qm : Nat} (G : Nat) (σ0 : MS) (a0 : Int32) (r : (Int32 × MS)) (hF : M_chooses G σ0 a0 = some r) : mMet l D cz qm yX4_chooses cX4_chooses 2 (some .int) 6 wr_chooses [.ref qm, .int a0] σ0 (some (.int r.1)) r.2 := by
  refine m_of (by decide) rfl ?_
  intro p e s m args below meth c ls K hl
  have ha : ag wr_chooses σ0 σ0 := ag.rf
  unfold M_chooses at hF
  refine g_aload_n (i := 0) K hl dX4_chooses_0 rfl rfl ?_
  refine g_iload_n (i := 1) K hl dX4_chooses_1 rfl rfl ?_
  refine m_callVP K hl hF (fun t h => w_isBobber _ _ t h) rfl cp_isBobber q2015 rfl rfl rfl rfl rfl dX4_chooses_2 (fun t1 hF => ?_)
  refine g_if_ne (tgt := 11) K hF dX4_chooses_5 (by decide) (fun hF => ?_) (fun hF => ?_)
  · refine g_aload_n (i := 0) K hl dX4_chooses_11 rfl rfl ?_
    refine m_callVV K hl hF ha rfl (fun t h => w_load G _  t h) rfl cp_load q2027 rfl rfl rfl rfl rfl dX4_chooses_12 (fun σ2 hF ha => ?_)
    refine g_aload_n (i := 0) K hl dX4_chooses_15 rfl rfl ?_
    refine g_iload_n (i := 1) K hl dX4_chooses_16 rfl rfl ?_
    refine g_aload_n (i := 0) K hl dX4_chooses_17 rfl rfl ?_
    refine mget_47 K dX4_chooses_18 ?_
    refine g_iload_n (i := 1) K hl dX4_chooses_21 rfl rfl ?_
    refine mld_47 K hF dX4_chooses_22 (fun t3 hF => ?_)
    refine m_callVW K hl hF ha rfl (fun t h => w_choice G _ _ _ t h) rfl cp_choice q2087 rfl rfl rfl rfl rfl dX4_chooses_23 (fun t5 σ4 hF ha => ?_)
    refine m_callSP K hl hF (fun t h => w_told10 _ _ t h) cp_told10 q2091 rfl rfl rfl rfl rfl dX4_chooses_26 (fun t6 hF => ?_)
    exact m_iretW K hF ha dX4_chooses_29
  · refine g_bipush K dX4_chooses_8 lb_m2 ?_
    exact m_iretW K hF ha dX4_chooses_10

theorem cp_act : cpV yX4_act cX4_act 2 none 0 := ⟨q2100, qs113, q152, q2101, by decide +kernel⟩
set_option maxHeartbeats 4000000 in
set_option maxRecDepth 100000 in
theorem w_act {l : Launch} {D : va_G} {cz : Nat → ClassId} {qm : Nat} (G : Nat) (σ0 : MS)  (r : MS) (hF : M_act G σ0 = some r) : mMet l D cz qm yX4_act cX4_act 2 none 0 wr_act [.ref qm] σ0 none r := by
  refine m_of (by decide) rfl ?_
  intro p e s m args below meth c ls K hl
  have B52 : ∀ (k52 : MS → Int32 → Option MS) (hk52 : (∀ (σ : MS) (x1 : Int32) (ls : Array Slot), k52 σ x1 = some r → ag wr_act σ0 σ → lq ls 2 [(0, some (.ref qm)), (1, some (.int x1))] → ZM p l e 0 s m args below meth c D cz qm wr_act σ0 none r σ (F0 m 52 ls []))) (σ : MS) (x1 : Int32) (ls : Array Slot), M_act_B52 G k52 σ x1 = some r → ag wr_act σ0 σ → lq ls 2 [(0, some (.ref qm)), (1, some (.int x1))] → ZM p l e 0 s m args below meth c D cz qm wr_act σ0 none r σ (F0 m 52 ls []) := by
    intro k52 hk52 σ x1 ls hF ha hl
    unfold M_act_B52 at hF
    refine g_iload_n (i := 1) K hl dX4_act_52 rfl rfl ?_
    refine g_bipush K dX4_act_53 lb_123 ?_
    refine g_icmp_ge (tgt := 85) K hF dX4_act_55 (by decide) (fun hF => ?_) (fun hF => ?_)
    · refine g_aload_n (i := 0) K hl dX4_act_85 rfl rfl ?_
      refine g_dup K dX4_act_86 rfl ?_
      refine mget_71 K dX4_act_87 ?_
      refine g_iconst K dX4_act_90 lc_1 ?_
      refine g_iadd K dX4_act_91 ?_
      refine mput_71 K hF ha rfl dX4_act_92 (fun σ1 hF ha => ?_)
      refine g_aload_n (i := 0) K hl dX4_act_95 rfl rfl ?_
      refine g_iconst K dX4_act_96 lc_0 ?_
      refine mput_72 K hF ha rfl dX4_act_97 (fun σ2 hF ha => ?_)
      exact m_vretV K hF ha dX4_act_100
    · refine g_aload_n (i := 0) K hl dX4_act_58 rfl rfl ?_
      refine mget_70 K dX4_act_59 ?_
      refine g_sipush K dX4_act_62 ls_128 ?_
      refine g_aload_n (i := 0) K hl dX4_act_65 rfl rfl ?_
      refine mget_71 K dX4_act_66 ?_
      refine g_imul K dX4_act_69 ?_
      refine g_iload_n (i := 1) K hl dX4_act_70 rfl rfl ?_
      refine g_iadd K dX4_act_71 ?_
      refine g_aload_n (i := 0) K hl dX4_act_72 rfl rfl ?_
      refine mget_67 K dX4_act_73 ?_
      refine g_iload_n (i := 1) K hl dX4_act_76 rfl rfl ?_
      refine mld_67 K hF dX4_act_77 (fun t3 hF => ?_)
      refine mst_70 K hF ha rfl dX4_act_78 (fun σ4 hF ha => ?_)
      refine g_iinc (i := 1) K hl dX4_act_79 rfl lc_1 rfl rfl (fun ls hl => ?_)
      refine g_goto (tgt := 52) K dX4_act_82 (by decide) ?_
      exact hk52 _ _ ls hF ha (lq_sub hl rfl)
  have L52 : ∀  (n : Nat) (σ : MS) (x1 : Int32) (ls : Array Slot), M_act_L52 G  n σ x1 = some r → ag wr_act σ0 σ → lq ls 2 [(0, some (.ref qm)), (1, some (.int x1))] → ZM p l e 0 s m args below meth c D cz qm wr_act σ0 none r σ (F0 m 52 ls []) := by
    intro  n
    induction n with
    | zero => intro σ x1 ls hF; exact absurd hF (fun h => by cases h)
    | succ n ih => intro σ x1 ls hF ha hl; exact B52  _ ih _ _ ls hF ha hl
  have B11 : ∀ (k11 : MS → Int32 → Option MS) (hk11 : (∀ (σ : MS) (x1 : Int32) (ls : Array Slot), k11 σ x1 = some r → ag wr_act σ0 σ → lq ls 2 [(0, some (.ref qm)), (1, some (.int x1))] → ZM p l e 0 s m args below meth c D cz qm wr_act σ0 none r σ (F0 m 11 ls []))) (σ : MS) (x1 : Int32) (ls : Array Slot), M_act_B11 G k11 σ x1 = some r → ag wr_act σ0 σ → lq ls 2 [(0, some (.ref qm)), (1, some (.int x1))] → ZM p l e 0 s m args below meth c D cz qm wr_act σ0 none r σ (F0 m 11 ls []) := by
    intro k11 hk11 σ x1 ls hF ha hl
    unfold M_act_B11 at hF
    refine g_iload_n (i := 1) K hl dX4_act_11 rfl rfl ?_
    refine g_sipush K dX4_act_12 ls_4992 ?_
    refine g_icmp_ge (tgt := 40) K hF dX4_act_15 (by decide) (fun hF => ?_) (fun hF => ?_)
    · refine g_aload_n (i := 0) K hl dX4_act_40 rfl rfl ?_
      refine g_dup K dX4_act_41 rfl ?_
      refine mget_71 K dX4_act_42 ?_
      refine g_iconst K dX4_act_45 lc_1 ?_
      refine g_isub K dX4_act_46 ?_
      refine mput_71 K hF ha rfl dX4_act_47 (fun σ1 hF ha => ?_)
      refine g_iconst K dX4_act_50 lc_0 ?_
      refine g_istore_n (i := 1) K hl dX4_act_51 rfl rfl rfl (fun ls hl => ?_)
      exact L52  G _ _ ls hF ha (lq_sub hl rfl)
    · refine g_aload_n (i := 0) K hl dX4_act_18 rfl rfl ?_
      refine mget_70 K dX4_act_19 ?_
      refine g_iload_n (i := 1) K hl dX4_act_22 rfl rfl ?_
      refine g_aload_n (i := 0) K hl dX4_act_23 rfl rfl ?_
      refine mget_70 K dX4_act_24 ?_
      refine g_sipush K dX4_act_27 ls_128 ?_
      refine g_iload_n (i := 1) K hl dX4_act_30 rfl rfl ?_
      refine g_iadd K dX4_act_31 ?_
      refine mld_70 K hF dX4_act_32 (fun t2 hF => ?_)
      refine mst_70 K hF ha rfl dX4_act_33 (fun σ3 hF ha => ?_)
      refine g_iinc (i := 1) K hl dX4_act_34 rfl lc_1 rfl rfl (fun ls hl => ?_)
      refine g_goto (tgt := 11) K dX4_act_37 (by decide) ?_
      exact hk11 _ _ ls hF ha (lq_sub hl rfl)
  have L11 : ∀  (n : Nat) (σ : MS) (x1 : Int32) (ls : Array Slot), M_act_L11 G  n σ x1 = some r → ag wr_act σ0 σ → lq ls 2 [(0, some (.ref qm)), (1, some (.int x1))] → ZM p l e 0 s m args below meth c D cz qm wr_act σ0 none r σ (F0 m 11 ls []) := by
    intro  n
    induction n with
    | zero => intro σ x1 ls hF; exact absurd hF (fun h => by cases h)
    | succ n ih => intro σ x1 ls hF ha hl; exact B11  _ ih _ _ ls hF ha hl
  have ha : ag wr_act σ0 σ0 := ag.rf
  unfold M_act at hF
  refine g_aload_n (i := 0) K hl dX4_act_0 rfl rfl ?_
  refine mget_71 K dX4_act_1 ?_
  refine g_bipush K dX4_act_4 lb_40 ?_
  refine g_icmp_ne (tgt := 50) K hF dX4_act_6 (by decide) (fun hF => ?_) (fun hF => ?_)
  · refine g_iconst K dX4_act_50 lc_0 ?_
    refine g_istore_n (i := 1) K hl dX4_act_51 rfl rfl rfl (fun ls hl => ?_)
    exact L52  G _ _ ls hF ha (lq_sub hl rfl)
  · refine g_iconst K dX4_act_9 lc_0 ?_
    refine g_istore_n (i := 1) K hl dX4_act_10 rfl rfl rfl (fun ls hl => ?_)
    exact L11  G _ _ ls hF ha (lq_sub hl rfl)

theorem cp_exchange : cpV yX4_exchange cX4_exchange 4 none 1 := ⟨q2163, qs124, q152, q2164, by decide +kernel⟩
set_option maxHeartbeats 4000000 in
set_option maxRecDepth 100000 in
theorem w_exchange {l : Launch} {D : va_G} {cz : Nat → ClassId} {qm : Nat} (G : Nat) (σ0 : MS) (a0 : Int32) (r : MS) (hF : M_exchange G σ0 a0 = some r) : mMet l D cz qm yX4_exchange cX4_exchange 4 none 0 wr_exchange [.ref qm, .int a0] σ0 none r := by
  refine m_of (by decide) rfl ?_
  intro p e s m args below meth c ls K hl
  have B2 : ∀ (k2 : MS → Int32 → Int32 → Option MS) (hk2 : (∀ (σ : MS) (x1 : Int32) (x2 : Int32) (ls : Array Slot), k2 σ x1 x2 = some r → ag wr_exchange σ0 σ → lq ls 4 [(0, some (.ref qm)), (1, some (.int x1)), (2, some (.int x2))] → ZM p l e 0 s m args below meth c D cz qm wr_exchange σ0 none r σ (F0 m 2 ls []))) (σ : MS) (x1 : Int32) (x2 : Int32) (ls : Array Slot), M_exchange_B2 G k2 σ x1 x2 = some r → ag wr_exchange σ0 σ → lq ls 4 [(0, some (.ref qm)), (1, some (.int x1)), (2, some (.int x2))] → ZM p l e 0 s m args below meth c D cz qm wr_exchange σ0 none r σ (F0 m 2 ls []) := by
    intro k2 hk2 σ x1 x2 ls hF ha hl
    unfold M_exchange_B2 at hF
    refine g_iload_n (i := 2) K hl dX4_exchange_2 rfl rfl ?_
    refine g_bipush K dX4_exchange_3 lb_123 ?_
    refine g_icmp_ge (tgt := 44) K hF dX4_exchange_5 (by decide) (fun hF => ?_) (fun hF => ?_)
    · exact m_vretV K hF ha dX4_exchange_44
    · refine g_aload_n (i := 0) K hl dX4_exchange_8 rfl rfl ?_
      refine mget_70 K dX4_exchange_9 ?_
      refine g_iload_n (i := 1) K hl dX4_exchange_12 rfl rfl ?_
      refine g_iload_n (i := 2) K hl dX4_exchange_13 rfl rfl ?_
      refine g_iadd K dX4_exchange_14 ?_
      refine mld_70 K hF dX4_exchange_15 (fun t1 hF => ?_)
      refine g_istore_n (i := 3) K hl dX4_exchange_16 rfl rfl rfl (fun ls hl => ?_)
      refine g_aload_n (i := 0) K hl dX4_exchange_17 rfl rfl ?_
      refine mget_70 K dX4_exchange_18 ?_
      refine g_iload_n (i := 1) K hl dX4_exchange_21 rfl rfl ?_
      refine g_iload_n (i := 2) K hl dX4_exchange_22 rfl rfl ?_
      refine g_iadd K dX4_exchange_23 ?_
      refine g_aload_n (i := 0) K hl dX4_exchange_24 rfl rfl ?_
      refine mget_67 K dX4_exchange_25 ?_
      refine g_iload_n (i := 2) K hl dX4_exchange_28 rfl rfl ?_
      refine mld_67 K hF dX4_exchange_29 (fun t2 hF => ?_)
      refine mst_70 K hF ha rfl dX4_exchange_30 (fun σ3 hF ha => ?_)
      refine g_aload_n (i := 0) K hl dX4_exchange_31 rfl rfl ?_
      refine mget_67 K dX4_exchange_32 ?_
      refine g_iload_n (i := 2) K hl dX4_exchange_35 rfl rfl ?_
      refine g_iload_n (i := 3) K hl dX4_exchange_36 rfl rfl ?_
      refine mst_67 K hF ha rfl dX4_exchange_37 (fun σ4 hF ha => ?_)
      refine g_iinc (i := 2) K hl dX4_exchange_38 rfl lc_1 rfl rfl (fun ls hl => ?_)
      refine g_goto (tgt := 2) K dX4_exchange_41 (by decide) ?_
      exact hk2 _ _ _ ls hF ha (lq_sub hl rfl)
  have L2 : ∀  (n : Nat) (σ : MS) (x1 : Int32) (x2 : Int32) (ls : Array Slot), M_exchange_L2 G  n σ x1 x2 = some r → ag wr_exchange σ0 σ → lq ls 4 [(0, some (.ref qm)), (1, some (.int x1)), (2, some (.int x2))] → ZM p l e 0 s m args below meth c D cz qm wr_exchange σ0 none r σ (F0 m 2 ls []) := by
    intro  n
    induction n with
    | zero => intro σ x1 x2 ls hF; exact absurd hF (fun h => by cases h)
    | succ n ih => intro σ x1 x2 ls hF ha hl; exact B2  _ ih _ _ _ ls hF ha hl
  have ha : ag wr_exchange σ0 σ0 := ag.rf
  unfold M_exchange at hF
  refine g_iconst K dX4_exchange_0 lc_0 ?_
  refine g_istore_n (i := 2) K hl dX4_exchange_1 rfl rfl rfl (fun ls hl => ?_)
  exact L2  G _ _ _ ls hF ha (lq_sub hl rfl)

theorem cp_go : cpV yX4_go cX4_go 5 (some .int) 3 := ⟨q2095, q2096, q152, q2097, by decide +kernel⟩
set_option maxHeartbeats 4000000 in
set_option maxRecDepth 100000 in
theorem w_go {l : Launch} {D : va_G} {cz : Nat → ClassId} {qm : Nat} (G : Nat) (σ0 : MS) (a0 : Int32) (a1 : Int32) (a2 : Int32) (r : (Int32 × MS)) (hF : M_go G σ0 a0 a1 a2 = some r) : mMet l D cz qm yX4_go cX4_go 5 (some .int) 6 wr_go [.ref qm, .int a0, .int a1, .int a2] σ0 (some (.int r.1)) r.2 := by
  refine m_of (by decide) rfl ?_
  intro p e s m args below meth c ls K hl
  have ha : ag wr_go σ0 σ0 := ag.rf
  unfold M_go at hF
  refine g_aload_n (i := 0) K hl dX4_go_0 rfl rfl ?_
  refine g_iload_n (i := 1) K hl dX4_go_1 rfl rfl ?_
  refine g_iload_n (i := 2) K hl dX4_go_2 rfl rfl ?_
  refine g_iload_n (i := 3) K hl dX4_go_3 rfl rfl ?_
  refine m_callVW K hl hF ha rfl (fun t h => w_mayTry G _ _ _ _ t h) rfl cp_mayTry q2023 rfl rfl rfl rfl rfl dX4_go_4 (fun t2 σ1 hF ha => ?_)
  refine g_if_ne (tgt := 12) K hF dX4_go_7 (by decide) (fun hF => ?_) (fun hF => ?_)
  · refine g_aload_n (i := 0) K hl dX4_go_12 rfl rfl ?_
    refine m_callVV K hl hF ha rfl (fun t h => w_act G _  t h) rfl cp_act q2098 rfl rfl rfl rfl rfl dX4_go_13 (fun σ3 hF ha => ?_)
    refine g_aload_n (i := 0) K hl dX4_go_16 rfl rfl ?_
    refine g_iload_n (i := 1) K hl dX4_go_17 rfl rfl ?_
    refine g_iload_n (i := 2) K hl dX4_go_18 rfl rfl ?_
    refine g_iload_n (i := 3) K hl dX4_go_19 rfl rfl ?_
    refine m_callVW K hl hF ha rfl (fun t h => w_tries G _ _ _ _ t h) rfl cp_tries q2102 rfl rfl rfl rfl rfl dX4_go_20 (fun t5 σ4 hF ha => ?_)
    refine g_istore (i := 4) K hl dX4_go_23 rfl rfl (fun ls hl => ?_)
    refine g_aload_n (i := 0) K hl dX4_go_25 rfl rfl ?_
    refine m_callVV K hl hF ha rfl (fun t h => w_keep G _  t h) rfl cp_keep q1992 rfl rfl rfl rfl rfl dX4_go_26 (fun σ6 hF ha => ?_)
    refine g_iload (i := 4) K hl dX4_go_29 rfl ?_
    refine g_if_eq (tgt := 38) K hF dX4_go_31 (by decide) (fun hF => ?_) (fun hF => ?_)
    · refine g_iconst K dX4_go_38 lc_0 ?_
      exact m_iretW K hF ha dX4_go_39
    · refine g_iconst K dX4_go_34 lc_1 ?_
      refine g_goto (tgt := 39) K dX4_go_35 (by decide) ?_
      exact m_iretW K hF ha dX4_go_39
  · refine g_iconst K dX4_go_10 lc_m1 ?_
    exact m_iretW K hF ha dX4_go_11

theorem cp_breathe : cpV yX4_breathe cX4_breathe 2 (some .int) 1 := ⟨q2130, q2131, q152, q2132, by decide +kernel⟩
set_option maxHeartbeats 4000000 in
set_option maxRecDepth 100000 in
theorem w_breathe {l : Launch} {D : va_G} {cz : Nat → ClassId} {qm : Nat} (G : Nat) (σ0 : MS) (a0 : Int32) (r : (Int32 × MS)) (hF : M_breathe G σ0 a0 = some r) : mMet l D cz qm yX4_breathe cX4_breathe 2 (some .int) 2 wr_breathe [.ref qm, .int a0] σ0 (some (.int r.1)) r.2 := by
  refine m_of (by decide) rfl ?_
  intro p e s m args below meth c ls K hl
  have ha : ag wr_breathe σ0 σ0 := ag.rf
  unfold M_breathe at hF
  refine g_aload_n (i := 0) K hl dX4_breathe_0 rfl rfl ?_
  refine g_iload_n (i := 1) K hl dX4_breathe_1 rfl rfl ?_
  refine m_callVP K hl hF (fun t h => w_isBobber _ _ t h) rfl cp_isBobber q2015 rfl rfl rfl rfl rfl dX4_breathe_2 (fun t1 hF => ?_)
  refine g_if_ne (tgt := 10) K hF dX4_breathe_5 (by decide) (fun hF => ?_) (fun hF => ?_)
  · refine g_aload_n (i := 0) K hl dX4_breathe_10 rfl rfl ?_
    refine m_callVV K hl hF ha rfl (fun t h => w_act G _  t h) rfl cp_act q2098 rfl rfl rfl rfl rfl dX4_breathe_11 (fun σ2 hF ha => ?_)
    refine g_aload_n (i := 0) K hl dX4_breathe_14 rfl rfl ?_
    refine m_callVV K hl hF ha rfl (fun t h => w_load G _  t h) rfl cp_load q2027 rfl rfl rfl rfl rfl dX4_breathe_15 (fun σ3 hF ha => ?_)
    refine g_aload_n (i := 0) K hl dX4_breathe_18 rfl rfl ?_
    refine g_iload_n (i := 1) K hl dX4_breathe_19 rfl rfl ?_
    refine m_callVV K hl hF ha rfl (fun t h => w_breathes _ _ t h) rfl cp_breathes q2133 rfl rfl rfl rfl rfl dX4_breathe_20 (fun σ4 hF ha => ?_)
    refine g_aload_n (i := 0) K hl dX4_breathe_23 rfl rfl ?_
    refine m_callVV K hl hF ha rfl (fun t h => w_keep G _  t h) rfl cp_keep q1992 rfl rfl rfl rfl rfl dX4_breathe_24 (fun σ5 hF ha => ?_)
    refine g_aload_n (i := 0) K hl dX4_breathe_27 rfl rfl ?_
    refine mget_45 K dX4_breathe_28 ?_
    refine g_iload_n (i := 1) K hl dX4_breathe_31 rfl rfl ?_
    refine mld_45 K hF dX4_breathe_32 (fun t6 hF => ?_)
    exact m_iretW K hF ha dX4_breathe_33
  · refine g_iconst K dX4_breathe_8 lc_m1 ?_
    exact m_iretW K hF ha dX4_breathe_9

theorem cp_goesOn : cpV yX4_goesOn cX4_goesOn 7 (some .boolean) 3 := ⟨q2147, qs122, q152, q2148, by decide +kernel⟩
set_option maxHeartbeats 4000000 in
set_option maxRecDepth 100000 in
theorem w_goesOn {l : Launch} {D : va_G} {cz : Nat → ClassId} {qm : Nat} (G : Nat) (σ0 : MS) (a0 : Int32) (a1 : Int32) (a2 : Int32) (r : (Int32 × MS)) (hF : M_goesOn G σ0 a0 a1 a2 = some r) : mMet l D cz qm yX4_goesOn cX4_goesOn 7 (some .boolean) 2 wr_goesOn [.ref qm, .int a0, .int a1, .int a2] σ0 (some (.int r.1)) r.2 := by
  refine m_of (by decide) rfl ?_
  intro p e s m args below meth c ls K hl
  have L55 : ∀  (σ : MS) (x4 : Int32) (x5 : Int32) (s0 : Int32) (ls : Array Slot), M_goesOn_L55 G  σ x4 x5 s0 = some r → ag wr_goesOn σ0 σ → lq ls 7 [(0, some (.ref qm)), (4, some (.int x4)), (5, some (.int x5))] → ZM p l e 2 s m args below meth c D cz qm wr_goesOn σ0 (some (.int r.1)) r.2 σ (F0 m 55 ls [.int s0]) := by
    intro  σ x4 x5 s0 ls hF ha hl
    unfold M_goesOn_L55 at hF
    refine g_istore (i := 6) K hl dX4_goesOn_55 rfl rfl (fun ls hl => ?_)
    refine g_iload (i := 4) K hl dX4_goesOn_57 rfl ?_
    refine g_if_lt (tgt := 84) K hF dX4_goesOn_59 (by decide) (fun hF => ?_) (fun hF => ?_)
    · refine g_iconst K dX4_goesOn_84 lc_0 ?_
      exact m_zretW K hF (Or.inl rfl) ha dX4_goesOn_85
    · refine g_aload_n (i := 0) K hl dX4_goesOn_62 rfl rfl ?_
      refine g_iload (i := 5) K hl dX4_goesOn_63 rfl ?_
      refine g_iload (i := 6) K hl dX4_goesOn_65 rfl ?_
      refine m_callVP K hl hF (fun t h => w_isCell _ _ _ t h) rfl cp_isCell q2125 rfl rfl rfl rfl rfl dX4_goesOn_67 (fun t1 hF => ?_)
      refine g_if_eq (tgt := 84) K hF dX4_goesOn_70 (by decide) (fun hF => ?_) (fun hF => ?_)
      · refine g_iconst K dX4_goesOn_84 lc_0 ?_
        exact m_zretW K hF (Or.inl rfl) ha dX4_goesOn_85
      · refine g_aload_n (i := 0) K hl dX4_goesOn_73 rfl rfl ?_
        refine g_iload (i := 5) K hl dX4_goesOn_74 rfl ?_
        refine g_iload (i := 6) K hl dX4_goesOn_76 rfl ?_
        refine m_callVP K hl hF (fun t h => w_afloat G _ _ _ t h) rfl cp_afloat q2061 rfl rfl rfl rfl rfl dX4_goesOn_78 (fun t2 hF => ?_)
        refine g_if_lt (tgt := 86) K hF dX4_goesOn_81 (by decide) (fun hF => ?_) (fun hF => ?_)
        · refine g_aload_n (i := 0) K hl dX4_goesOn_86 rfl rfl ?_
          refine mget_66 K dX4_goesOn_87 ?_
          refine g_iconst K dX4_goesOn_90 lc_5 ?_
          refine g_iload (i := 4) K hl dX4_goesOn_91 rfl ?_
          refine g_imul K dX4_goesOn_93 ?_
          refine g_iload (i := 5) K hl dX4_goesOn_94 rfl ?_
          refine mst_66 K hF ha rfl dX4_goesOn_96 (fun σ3 hF ha => ?_)
          refine g_aload_n (i := 0) K hl dX4_goesOn_97 rfl rfl ?_
          refine mget_66 K dX4_goesOn_98 ?_
          refine g_iconst K dX4_goesOn_101 lc_5 ?_
          refine g_iload (i := 4) K hl dX4_goesOn_102 rfl ?_
          refine g_imul K dX4_goesOn_104 ?_
          refine g_iconst K dX4_goesOn_105 lc_1 ?_
          refine g_iadd K dX4_goesOn_106 ?_
          refine g_iload (i := 6) K hl dX4_goesOn_107 rfl ?_
          refine mst_66 K hF ha rfl dX4_goesOn_109 (fun σ4 hF ha => ?_)
          refine g_iconst K dX4_goesOn_110 lc_1 ?_
          exact m_zretW K hF (Or.inr rfl) ha dX4_goesOn_111
        · refine g_iconst K dX4_goesOn_84 lc_0 ?_
          exact m_zretW K hF (Or.inl rfl) ha dX4_goesOn_85
  have L30 : ∀  (σ : MS) (x2 : Int32) (x3 : Int32) (x4 : Int32) (s0 : Int32) (ls : Array Slot), M_goesOn_L30 G  σ x2 x3 x4 s0 = some r → ag wr_goesOn σ0 σ → lq ls 7 [(0, some (.ref qm)), (2, some (.int x2)), (3, some (.int x3)), (4, some (.int x4))] → ZM p l e 2 s m args below meth c D cz qm wr_goesOn σ0 (some (.int r.1)) r.2 σ (F0 m 30 ls [.int s0]) := by
    intro  σ x2 x3 x4 s0 ls hF ha hl
    unfold M_goesOn_L30 at hF
    refine g_istore (i := 5) K hl dX4_goesOn_30 rfl rfl (fun ls hl => ?_)
    refine g_iload_n (i := 3) K hl dX4_goesOn_32 rfl rfl ?_
    refine g_iconst K dX4_goesOn_33 lc_2 ?_
    refine g_icmp_ne (tgt := 43) K hF dX4_goesOn_34 (by decide) (fun hF => ?_) (fun hF => ?_)
    · refine g_iload_n (i := 3) K hl dX4_goesOn_43 rfl rfl ?_
      refine g_iconst K dX4_goesOn_44 lc_3 ?_
      refine g_icmp_ne (tgt := 54) K hF dX4_goesOn_45 (by decide) (fun hF => ?_) (fun hF => ?_)
      · refine g_iload_n (i := 2) K hl dX4_goesOn_54 rfl rfl ?_
        exact L55  _ _ _ _ ls hF ha (lq_sub hl rfl)
      · refine g_iload_n (i := 2) K hl dX4_goesOn_48 rfl rfl ?_
        refine g_iconst K dX4_goesOn_49 lc_1 ?_
        refine g_isub K dX4_goesOn_50 ?_
        refine g_goto (tgt := 55) K dX4_goesOn_51 (by decide) ?_
        exact L55  _ _ _ _ ls hF ha (lq_sub hl rfl)
    · refine g_iload_n (i := 2) K hl dX4_goesOn_37 rfl rfl ?_
      refine g_iconst K dX4_goesOn_38 lc_1 ?_
      refine g_iadd K dX4_goesOn_39 ?_
      refine g_goto (tgt := 55) K dX4_goesOn_40 (by decide) ?_
      exact L55  _ _ _ _ ls hF ha (lq_sub hl rfl)
  have ha : ag wr_goesOn σ0 σ0 := ag.rf
  unfold M_goesOn at hF
  refine g_aload_n (i := 0) K hl dX4_goesOn_0 rfl rfl ?_
  refine g_iload_n (i := 1) K hl dX4_goesOn_1 rfl rfl ?_
  refine g_iload_n (i := 2) K hl dX4_goesOn_2 rfl rfl ?_
  refine m_callVP K hl hF (fun t h => w_afloat G _ _ _ t h) rfl cp_afloat q2061 rfl rfl rfl rfl rfl dX4_goesOn_3 (fun t1 hF => ?_)
  refine g_istore (i := 4) K hl dX4_goesOn_6 rfl rfl (fun ls hl => ?_)
  refine g_iload_n (i := 3) K hl dX4_goesOn_8 rfl rfl ?_
  refine g_if_ne (tgt := 18) K hF dX4_goesOn_9 (by decide) (fun hF => ?_) (fun hF => ?_)
  · refine g_iload_n (i := 3) K hl dX4_goesOn_18 rfl rfl ?_
    refine g_iconst K dX4_goesOn_19 lc_1 ?_
    refine g_icmp_ne (tgt := 29) K hF dX4_goesOn_20 (by decide) (fun hF => ?_) (fun hF => ?_)
    · refine g_iload_n (i := 1) K hl dX4_goesOn_29 rfl rfl ?_
      exact L30  _ _ _ _ _ ls hF ha (lq_sub hl rfl)
    · refine g_iload_n (i := 1) K hl dX4_goesOn_23 rfl rfl ?_
      refine g_iconst K dX4_goesOn_24 lc_1 ?_
      refine g_iadd K dX4_goesOn_25 ?_
      refine g_goto (tgt := 30) K dX4_goesOn_26 (by decide) ?_
      exact L30  _ _ _ _ _ ls hF ha (lq_sub hl rfl)
  · refine g_iload_n (i := 1) K hl dX4_goesOn_12 rfl rfl ?_
    refine g_iconst K dX4_goesOn_13 lc_1 ?_
    refine g_isub K dX4_goesOn_14 ?_
    refine g_goto (tgt := 30) K dX4_goesOn_15 (by decide) ?_
    exact L30  _ _ _ _ _ ls hF ha (lq_sub hl rfl)

theorem cp_wavesTo : cpV yX4_wavesTo cX4_wavesTo 8 (some .int) 1 := ⟨q2143, qs121, q152, q2144, by decide +kernel⟩
set_option maxHeartbeats 4000000 in
set_option maxRecDepth 100000 in
theorem w_wavesTo {l : Launch} {D : va_G} {cz : Nat → ClassId} {qm : Nat} (G : Nat) (σ0 : MS) (a0 : Int32) (r : (Int32 × MS)) (hF : M_wavesTo G σ0 a0 = some r) : mMet l D cz qm yX4_wavesTo cX4_wavesTo 8 (some .int) 3 wr_wavesTo [.ref qm, .int a0] σ0 (some (.int r.1)) r.2 := by
  refine m_of (by decide) rfl ?_
  intro p e s m args below meth c ls K hl
  have L105 : ∀ (k40 : MS → Int32 → Int32 → Int32 → Int32 → Int32 → Option (Int32 × MS)) (hk40 : (∀ (σ : MS) (x1 : Int32) (x2 : Int32) (x3 : Int32) (x4 : Int32) (x5 : Int32) (ls : Array Slot), k40 σ x1 x2 x3 x4 x5 = some r → ag wr_wavesTo σ0 σ → lq ls 8 [(0, some (.ref qm)), (1, some (.int x1)), (2, some (.int x2)), (3, some (.int x3)), (4, some (.int x4)), (5, some (.int x5))] → ZM p l e 3 s m args below meth c D cz qm wr_wavesTo σ0 (some (.int r.1)) r.2 σ (F0 m 40 ls []))) (k49 : MS → Int32 → Int32 → Int32 → Int32 → Int32 → Int32 → Option (Int32 × MS)) (hk49 : (∀ (σ : MS) (x1 : Int32) (x2 : Int32) (x3 : Int32) (x4 : Int32) (x5 : Int32) (x6 : Int32) (ls : Array Slot), k49 σ x1 x2 x3 x4 x5 x6 = some r → ag wr_wavesTo σ0 σ → lq ls 8 [(0, some (.ref qm)), (1, some (.int x1)), (2, some (.int x2)), (3, some (.int x3)), (4, some (.int x4)), (5, some (.int x5)), (6, some (.int x6))] → ZM p l e 3 s m args below meth c D cz qm wr_wavesTo σ0 (some (.int r.1)) r.2 σ (F0 m 49 ls []))) (σ : MS) (x1 : Int32) (x3 : Int32) (x4 : Int32) (x5 : Int32) (x6 : Int32) (s0 : Int32) (s2 : Int32) (s3 : Int32) (ls : Array Slot), M_wavesTo_L105 G k40 k49 σ x1 x3 x4 x5 x6 s0 s2 s3 = some r → ag wr_wavesTo σ0 σ → lq ls 8 [(0, some (.ref qm)), (1, some (.int x1)), (3, some (.int x3)), (4, some (.int x4)), (5, some (.int x5)), (6, some (.int x6))] → ZM p l e 3 s m args below meth c D cz qm wr_wavesTo σ0 (some (.int r.1)) r.2 σ (F0 m 105 ls [.int s3, .int s2, .ref qm, .int s0]) := by
    intro k40 hk40 k49 hk49 σ x1 x3 x4 x5 x6 s0 s2 s3 ls hF ha hl
    unfold M_wavesTo_L105 at hF
    refine g_iload_n (i := 1) K hl dX4_wavesTo_105 rfl rfl ?_
    refine m_callVW K hl hF ha rfl (fun t h => w_goesOn G _ _ _ _ t h) rfl cp_goesOn q2145 rfl rfl rfl rfl rfl dX4_wavesTo_106 (fun t2 σ1 hF ha => ?_)
    refine g_if_eq (tgt := 116) K hF dX4_wavesTo_109 (by decide) (fun hF => ?_) (fun hF => ?_)
    · refine g_iconst K dX4_wavesTo_116 lc_0 ?_
      refine g_iadd K dX4_wavesTo_117 ?_
      refine g_istore_n (i := 2) K hl dX4_wavesTo_118 rfl rfl rfl (fun ls hl => ?_)
      refine g_iinc (i := 6) K hl dX4_wavesTo_119 rfl lc_1 rfl rfl (fun ls hl => ?_)
      refine g_goto (tgt := 49) K dX4_wavesTo_122 (by decide) ?_
      exact hk49 _ _ _ _ _ _ _ ls hF ha (lq_sub hl rfl)
    · refine g_iconst K dX4_wavesTo_112 lc_1 ?_
      refine g_goto (tgt := 117) K dX4_wavesTo_113 (by decide) ?_
      refine g_iadd K dX4_wavesTo_117 ?_
      refine g_istore_n (i := 2) K hl dX4_wavesTo_118 rfl rfl rfl (fun ls hl => ?_)
      refine g_iinc (i := 6) K hl dX4_wavesTo_119 rfl lc_1 rfl rfl (fun ls hl => ?_)
      refine g_goto (tgt := 49) K dX4_wavesTo_122 (by decide) ?_
      exact hk49 _ _ _ _ _ _ _ ls hF ha (lq_sub hl rfl)
  have L93 : ∀ (k40 : MS → Int32 → Int32 → Int32 → Int32 → Int32 → Option (Int32 × MS)) (hk40 : (∀ (σ : MS) (x1 : Int32) (x2 : Int32) (x3 : Int32) (x4 : Int32) (x5 : Int32) (ls : Array Slot), k40 σ x1 x2 x3 x4 x5 = some r → ag wr_wavesTo σ0 σ → lq ls 8 [(0, some (.ref qm)), (1, some (.int x1)), (2, some (.int x2)), (3, some (.int x3)), (4, some (.int x4)), (5, some (.int x5))] → ZM p l e 3 s m args below meth c D cz qm wr_wavesTo σ0 (some (.int r.1)) r.2 σ (F0 m 40 ls []))) (k49 : MS → Int32 → Int32 → Int32 → Int32 → Int32 → Int32 → Option (Int32 × MS)) (hk49 : (∀ (σ : MS) (x1 : Int32) (x2 : Int32) (x3 : Int32) (x4 : Int32) (x5 : Int32) (x6 : Int32) (ls : Array Slot), k49 σ x1 x2 x3 x4 x5 x6 = some r → ag wr_wavesTo σ0 σ → lq ls 8 [(0, some (.ref qm)), (1, some (.int x1)), (2, some (.int x2)), (3, some (.int x3)), (4, some (.int x4)), (5, some (.int x5)), (6, some (.int x6))] → ZM p l e 3 s m args below meth c D cz qm wr_wavesTo σ0 (some (.int r.1)) r.2 σ (F0 m 49 ls []))) (σ : MS) (x1 : Int32) (x3 : Int32) (x4 : Int32) (x5 : Int32) (x6 : Int32) (x7 : Int32) (s0 : Int32) (s2 : Int32) (ls : Array Slot), M_wavesTo_L93 G k40 k49 σ x1 x3 x4 x5 x6 x7 s0 s2 = some r → ag wr_wavesTo σ0 σ → lq ls 8 [(0, some (.ref qm)), (1, some (.int x1)), (3, some (.int x3)), (4, some (.int x4)), (5, some (.int x5)), (6, some (.int x6)), (7, some (.int x7))] → ZM p l e 3 s m args below meth c D cz qm wr_wavesTo σ0 (some (.int r.1)) r.2 σ (F0 m 93 ls [.int s2, .ref qm, .int s0]) := by
    intro k40 hk40 k49 hk49 σ x1 x3 x4 x5 x6 x7 s0 s2 ls hF ha hl
    unfold M_wavesTo_L93 at hF
    refine g_iload_n (i := 1) K hl dX4_wavesTo_93 rfl rfl ?_
    refine g_iconst K dX4_wavesTo_94 lc_2 ?_
    refine g_icmp_ge (tgt := 103) K hF dX4_wavesTo_95 (by decide) (fun hF => ?_) (fun hF => ?_)
    · refine g_iload (i := 7) K hl dX4_wavesTo_103 rfl ?_
      exact L105 k40 hk40 k49 hk49 _ _ _ _ _ _ _ _ _ ls hF ha (lq_sub hl rfl)
    · refine g_iload (i := 6) K hl dX4_wavesTo_98 rfl ?_
      refine g_goto (tgt := 105) K dX4_wavesTo_100 (by decide) ?_
      exact L105 k40 hk40 k49 hk49 _ _ _ _ _ _ _ _ _ ls hF ha (lq_sub hl rfl)
  have L77 : ∀ (k40 : MS → Int32 → Int32 → Int32 → Int32 → Int32 → Option (Int32 × MS)) (hk40 : (∀ (σ : MS) (x1 : Int32) (x2 : Int32) (x3 : Int32) (x4 : Int32) (x5 : Int32) (ls : Array Slot), k40 σ x1 x2 x3 x4 x5 = some r → ag wr_wavesTo σ0 σ → lq ls 8 [(0, some (.ref qm)), (1, some (.int x1)), (2, some (.int x2)), (3, some (.int x3)), (4, some (.int x4)), (5, some (.int x5))] → ZM p l e 3 s m args below meth c D cz qm wr_wavesTo σ0 (some (.int r.1)) r.2 σ (F0 m 40 ls []))) (k49 : MS → Int32 → Int32 → Int32 → Int32 → Int32 → Int32 → Option (Int32 × MS)) (hk49 : (∀ (σ : MS) (x1 : Int32) (x2 : Int32) (x3 : Int32) (x4 : Int32) (x5 : Int32) (x6 : Int32) (ls : Array Slot), k49 σ x1 x2 x3 x4 x5 x6 = some r → ag wr_wavesTo σ0 σ → lq ls 8 [(0, some (.ref qm)), (1, some (.int x1)), (2, some (.int x2)), (3, some (.int x3)), (4, some (.int x4)), (5, some (.int x5)), (6, some (.int x6))] → ZM p l e 3 s m args below meth c D cz qm wr_wavesTo σ0 (some (.int r.1)) r.2 σ (F0 m 49 ls []))) (σ : MS) (x1 : Int32) (x2 : Int32) (x3 : Int32) (x4 : Int32) (x5 : Int32) (x6 : Int32) (s0 : Int32) (ls : Array Slot), M_wavesTo_L77 G k40 k49 σ x1 x2 x3 x4 x5 x6 s0 = some r → ag wr_wavesTo σ0 σ → lq ls 8 [(0, some (.ref qm)), (1, some (.int x1)), (2, some (.int x2)), (3, some (.int x3)), (4, some (.int x4)), (5, some (.int x5)), (6, some (.int x6))] → ZM p l e 3 s m args below meth c D cz qm wr_wavesTo σ0 (some (.int r.1)) r.2 σ (F0 m 77 ls [.int s0]) := by
    intro k40 hk40 k49 hk49 σ x1 x2 x3 x4 x5 x6 s0 ls hF ha hl
    unfold M_wavesTo_L77 at hF
    refine g_istore (i := 7) K hl dX4_wavesTo_77 rfl rfl (fun ls hl => ?_)
    refine g_iload_n (i := 2) K hl dX4_wavesTo_79 rfl rfl ?_
    refine g_aload_n (i := 0) K hl dX4_wavesTo_80 rfl rfl ?_
    refine g_iload_n (i := 1) K hl dX4_wavesTo_81 rfl rfl ?_
    refine g_iconst K dX4_wavesTo_82 lc_2 ?_
    refine g_icmp_ge (tgt := 91) K hF dX4_wavesTo_83 (by decide) (fun hF => ?_) (fun hF => ?_)
    · refine g_iload (i := 6) K hl dX4_wavesTo_91 rfl ?_
      exact L93 k40 hk40 k49 hk49 _ _ _ _ _ _ _ _ _ ls hF ha (lq_sub hl rfl)
    · refine g_iload (i := 7) K hl dX4_wavesTo_86 rfl ?_
      refine g_goto (tgt := 93) K dX4_wavesTo_88 (by decide) ?_
      exact L93 k40 hk40 k49 hk49 _ _ _ _ _ _ _ _ _ ls hF ha (lq_sub hl rfl)
  have L66 : ∀ (k40 : MS → Int32 → Int32 → Int32 → Int32 → Int32 → Option (Int32 × MS)) (hk40 : (∀ (σ : MS) (x1 : Int32) (x2 : Int32) (x3 : Int32) (x4 : Int32) (x5 : Int32) (ls : Array Slot), k40 σ x1 x2 x3 x4 x5 = some r → ag wr_wavesTo σ0 σ → lq ls 8 [(0, some (.ref qm)), (1, some (.int x1)), (2, some (.int x2)), (3, some (.int x3)), (4, some (.int x4)), (5, some (.int x5))] → ZM p l e 3 s m args below meth c D cz qm wr_wavesTo σ0 (some (.int r.1)) r.2 σ (F0 m 40 ls []))) (k49 : MS → Int32 → Int32 → Int32 → Int32 → Int32 → Int32 → Option (Int32 × MS)) (hk49 : (∀ (σ : MS) (x1 : Int32) (x2 : Int32) (x3 : Int32) (x4 : Int32) (x5 : Int32) (x6 : Int32) (ls : Array Slot), k49 σ x1 x2 x3 x4 x5 x6 = some r → ag wr_wavesTo σ0 σ → lq ls 8 [(0, some (.ref qm)), (1, some (.int x1)), (2, some (.int x2)), (3, some (.int x3)), (4, some (.int x4)), (5, some (.int x5)), (6, some (.int x6))] → ZM p l e 3 s m args below meth c D cz qm wr_wavesTo σ0 (some (.int r.1)) r.2 σ (F0 m 49 ls []))) (σ : MS) (x1 : Int32) (x2 : Int32) (x3 : Int32) (x4 : Int32) (x5 : Int32) (x6 : Int32) (ls : Array Slot), M_wavesTo_L66 G k40 k49 σ x1 x2 x3 x4 x5 x6 = some r → ag wr_wavesTo σ0 σ → lq ls 8 [(0, some (.ref qm)), (1, some (.int x1)), (2, some (.int x2)), (3, some (.int x3)), (4, some (.int x4)), (5, some (.int x5)), (6, some (.int x6))] → ZM p l e 3 s m args below meth c D cz qm wr_wavesTo σ0 (some (.int r.1)) r.2 σ (F0 m 66 ls []) := by
    intro k40 hk40 k49 hk49 σ x1 x2 x3 x4 x5 x6 ls hF ha hl
    unfold M_wavesTo_L66 at hF
    refine g_iload_n (i := 3) K hl dX4_wavesTo_66 rfl rfl ?_
    refine g_iconst K dX4_wavesTo_67 lc_1 ?_
    refine g_isub K dX4_wavesTo_68 ?_
    refine g_iload (i := 5) K hl dX4_wavesTo_69 rfl ?_
    refine g_isub K dX4_wavesTo_71 ?_
    refine g_goto (tgt := 77) K dX4_wavesTo_72 (by decide) ?_
    exact L77 k40 hk40 k49 hk49 _ _ _ _ _ _ _ _ ls hF ha (lq_sub hl rfl)
  have B49 : ∀ (k40 : MS → Int32 → Int32 → Int32 → Int32 → Int32 → Option (Int32 × MS)) (hk40 : (∀ (σ : MS) (x1 : Int32) (x2 : Int32) (x3 : Int32) (x4 : Int32) (x5 : Int32) (ls : Array Slot), k40 σ x1 x2 x3 x4 x5 = some r → ag wr_wavesTo σ0 σ → lq ls 8 [(0, some (.ref qm)), (1, some (.int x1)), (2, some (.int x2)), (3, some (.int x3)), (4, some (.int x4)), (5, some (.int x5))] → ZM p l e 3 s m args below meth c D cz qm wr_wavesTo σ0 (some (.int r.1)) r.2 σ (F0 m 40 ls []))) (k49 : MS → Int32 → Int32 → Int32 → Int32 → Int32 → Int32 → Option (Int32 × MS)) (hk49 : (∀ (σ : MS) (x1 : Int32) (x2 : Int32) (x3 : Int32) (x4 : Int32) (x5 : Int32) (x6 : Int32) (ls : Array Slot), k49 σ x1 x2 x3 x4 x5 x6 = some r → ag wr_wavesTo σ0 σ → lq ls 8 [(0, some (.ref qm)), (1, some (.int x1)), (2, some (.int x2)), (3, some (.int x3)), (4, some (.int x4)), (5, some (.int x5)), (6, some (.int x6))] → ZM p l e 3 s m args below meth c D cz qm wr_wavesTo σ0 (some (.int r.1)) r.2 σ (F0 m 49 ls []))) (σ : MS) (x1 : Int32) (x2 : Int32) (x3 : Int32) (x4 : Int32) (x5 : Int32) (x6 : Int32) (ls : Array Slot), M_wavesTo_B49 G k40 k49 σ x1 x2 x3 x4 x5 x6 = some r → ag wr_wavesTo σ0 σ → lq ls 8 [(0, some (.ref qm)), (1, some (.int x1)), (2, some (.int x2)), (3, some (.int x3)), (4, some (.int x4)), (5, some (.int x5)), (6, some (.int x6))] → ZM p l e 3 s m args below meth c D cz qm wr_wavesTo σ0 (some (.int r.1)) r.2 σ (F0 m 49 ls []) := by
    intro k40 hk40 k49 hk49 σ x1 x2 x3 x4 x5 x6 ls hF ha hl
    unfold M_wavesTo_B49 at hF
    refine g_iload (i := 6) K hl dX4_wavesTo_49 rfl ?_
    refine g_iload (i := 4) K hl dX4_wavesTo_51 rfl ?_
    refine g_icmp_ge (tgt := 125) K hF dX4_wavesTo_53 (by decide) (fun hF => ?_) (fun hF => ?_)
    · refine g_iinc (i := 5) K hl dX4_wavesTo_125 rfl lc_1 rfl rfl (fun ls hl => ?_)
      refine g_goto (tgt := 40) K dX4_wavesTo_128 (by decide) ?_
      exact hk40 _ _ _ _ _ _ ls hF ha (lq_sub hl rfl)
    · refine g_iload_n (i := 1) K hl dX4_wavesTo_56 rfl rfl ?_
      refine g_iconst K dX4_wavesTo_57 lc_1 ?_
      refine g_icmp_eq (tgt := 66) K hF dX4_wavesTo_58 (by decide) (fun hF => ?_) (fun hF => ?_)
      · exact L66 k40 hk40 k49 hk49 _ _ _ _ _ _ _ ls hF ha (lq_sub hl rfl)
      · refine g_iload_n (i := 1) K hl dX4_wavesTo_61 rfl rfl ?_
        refine g_iconst K dX4_wavesTo_62 lc_2 ?_
        refine g_icmp_ne (tgt := 75) K hF dX4_wavesTo_63 (by decide) (fun hF => ?_) (fun hF => ?_)
        · refine g_iload (i := 5) K hl dX4_wavesTo_75 rfl ?_
          exact L77 k40 hk40 k49 hk49 _ _ _ _ _ _ _ _ ls hF ha (lq_sub hl rfl)
        · exact L66 k40 hk40 k49 hk49 _ _ _ _ _ _ _ ls hF ha (lq_sub hl rfl)
  have L49 : ∀ (k40 : MS → Int32 → Int32 → Int32 → Int32 → Int32 → Option (Int32 × MS)) (hk40 : (∀ (σ : MS) (x1 : Int32) (x2 : Int32) (x3 : Int32) (x4 : Int32) (x5 : Int32) (ls : Array Slot), k40 σ x1 x2 x3 x4 x5 = some r → ag wr_wavesTo σ0 σ → lq ls 8 [(0, some (.ref qm)), (1, some (.int x1)), (2, some (.int x2)), (3, some (.int x3)), (4, some (.int x4)), (5, some (.int x5))] → ZM p l e 3 s m args below meth c D cz qm wr_wavesTo σ0 (some (.int r.1)) r.2 σ (F0 m 40 ls []))) (n : Nat) (σ : MS) (x1 : Int32) (x2 : Int32) (x3 : Int32) (x4 : Int32) (x5 : Int32) (x6 : Int32) (ls : Array Slot), M_wavesTo_L49 G k40 n σ x1 x2 x3 x4 x5 x6 = some r → ag wr_wavesTo σ0 σ → lq ls 8 [(0, some (.ref qm)), (1, some (.int x1)), (2, some (.int x2)), (3, some (.int x3)), (4, some (.int x4)), (5, some (.int x5)), (6, some (.int x6))] → ZM p l e 3 s m args below meth c D cz qm wr_wavesTo σ0 (some (.int r.1)) r.2 σ (F0 m 49 ls []) := by
    intro k40 hk40 n
    induction n with
    | zero => intro σ x1 x2 x3 x4 x5 x6 ls hF; exact absurd hF (fun h => by cases h)
    | succ n ih => intro σ x1 x2 x3 x4 x5 x6 ls hF ha hl; exact B49 k40 hk40 _ ih _ _ _ _ _ _ _ ls hF ha hl
  have B40 : ∀ (k40 : MS → Int32 → Int32 → Int32 → Int32 → Int32 → Option (Int32 × MS)) (hk40 : (∀ (σ : MS) (x1 : Int32) (x2 : Int32) (x3 : Int32) (x4 : Int32) (x5 : Int32) (ls : Array Slot), k40 σ x1 x2 x3 x4 x5 = some r → ag wr_wavesTo σ0 σ → lq ls 8 [(0, some (.ref qm)), (1, some (.int x1)), (2, some (.int x2)), (3, some (.int x3)), (4, some (.int x4)), (5, some (.int x5))] → ZM p l e 3 s m args below meth c D cz qm wr_wavesTo σ0 (some (.int r.1)) r.2 σ (F0 m 40 ls []))) (σ : MS) (x1 : Int32) (x2 : Int32) (x3 : Int32) (x4 : Int32) (x5 : Int32) (ls : Array Slot), M_wavesTo_B40 G k40 σ x1 x2 x3 x4 x5 = some r → ag wr_wavesTo σ0 σ → lq ls 8 [(0, some (.ref qm)), (1, some (.int x1)), (2, some (.int x2)), (3, some (.int x3)), (4, some (.int x4)), (5, some (.int x5))] → ZM p l e 3 s m args below meth c D cz qm wr_wavesTo σ0 (some (.int r.1)) r.2 σ (F0 m 40 ls []) := by
    intro k40 hk40 σ x1 x2 x3 x4 x5 ls hF ha hl
    unfold M_wavesTo_B40 at hF
    refine g_iload (i := 5) K hl dX4_wavesTo_40 rfl ?_
    refine g_iload_n (i := 3) K hl dX4_wavesTo_42 rfl rfl ?_
    refine g_icmp_ge (tgt := 131) K hF dX4_wavesTo_43 (by decide) (fun hF => ?_) (fun hF => ?_)
    · refine g_iload_n (i := 2) K hl dX4_wavesTo_131 rfl rfl ?_
      exact m_iretW K hF ha dX4_wavesTo_132
    · refine g_iconst K dX4_wavesTo_46 lc_0 ?_
      refine g_istore (i := 6) K hl dX4_wavesTo_47 rfl rfl (fun ls hl => ?_)
      exact L49 k40 hk40 G _ _ _ _ _ _ _ ls hF ha (lq_sub hl rfl)
  have L40 : ∀  (n : Nat) (σ : MS) (x1 : Int32) (x2 : Int32) (x3 : Int32) (x4 : Int32) (x5 : Int32) (ls : Array Slot), M_wavesTo_L40 G  n σ x1 x2 x3 x4 x5 = some r → ag wr_wavesTo σ0 σ → lq ls 8 [(0, some (.ref qm)), (1, some (.int x1)), (2, some (.int x2)), (3, some (.int x3)), (4, some (.int x4)), (5, some (.int x5))] → ZM p l e 3 s m args below meth c D cz qm wr_wavesTo σ0 (some (.int r.1)) r.2 σ (F0 m 40 ls []) := by
    intro  n
    induction n with
    | zero => intro σ x1 x2 x3 x4 x5 ls hF; exact absurd hF (fun h => by cases h)
    | succ n ih => intro σ x1 x2 x3 x4 x5 ls hF ha hl; exact B40  _ ih _ _ _ _ _ _ ls hF ha hl
  have L18 : ∀  (σ : MS) (x1 : Int32) (x2 : Int32) (s0 : Int32) (ls : Array Slot), M_wavesTo_L18 G  σ x1 x2 s0 = some r → ag wr_wavesTo σ0 σ → lq ls 8 [(0, some (.ref qm)), (1, some (.int x1)), (2, some (.int x2))] → ZM p l e 3 s m args below meth c D cz qm wr_wavesTo σ0 (some (.int r.1)) r.2 σ (F0 m 18 ls [.int s0]) := by
    intro  σ x1 x2 s0 ls hF ha hl
    unfold M_wavesTo_L18 at hF
    refine g_istore_n (i := 3) K hl dX4_wavesTo_18 rfl rfl rfl (fun ls hl => ?_)
    refine g_iload_n (i := 1) K hl dX4_wavesTo_19 rfl rfl ?_
    refine g_iconst K dX4_wavesTo_20 lc_2 ?_
    refine g_icmp_ge (tgt := 31) K hF dX4_wavesTo_21 (by decide) (fun hF => ?_) (fun hF => ?_)
    · refine g_aload_n (i := 0) K hl dX4_wavesTo_31 rfl rfl ?_
      refine mget_56 K dX4_wavesTo_32 ?_
      refine g_istore (i := 4) K hl dX4_wavesTo_35 rfl rfl (fun ls hl => ?_)
      refine g_iconst K dX4_wavesTo_37 lc_0 ?_
      refine g_istore (i := 5) K hl dX4_wavesTo_38 rfl rfl (fun ls hl => ?_)
      exact L40  G _ _ _ _ _ _ ls hF ha (lq_sub hl rfl)
    · refine g_aload_n (i := 0) K hl dX4_wavesTo_24 rfl rfl ?_
      refine mget_57 K dX4_wavesTo_25 ?_
      refine g_goto (tgt := 35) K dX4_wavesTo_28 (by decide) ?_
      refine g_istore (i := 4) K hl dX4_wavesTo_35 rfl rfl (fun ls hl => ?_)
      refine g_iconst K dX4_wavesTo_37 lc_0 ?_
      refine g_istore (i := 5) K hl dX4_wavesTo_38 rfl rfl (fun ls hl => ?_)
      exact L40  G _ _ _ _ _ _ ls hF ha (lq_sub hl rfl)
  have ha : ag wr_wavesTo σ0 σ0 := ag.rf
  unfold M_wavesTo at hF
  refine g_iconst K dX4_wavesTo_0 lc_0 ?_
  refine g_istore_n (i := 2) K hl dX4_wavesTo_1 rfl rfl rfl (fun ls hl => ?_)
  refine g_iload_n (i := 1) K hl dX4_wavesTo_2 rfl rfl ?_
  refine g_iconst K dX4_wavesTo_3 lc_2 ?_
  refine g_icmp_ge (tgt := 14) K hF dX4_wavesTo_4 (by decide) (fun hF => ?_) (fun hF => ?_)
  · refine g_aload_n (i := 0) K hl dX4_wavesTo_14 rfl rfl ?_
    refine mget_57 K dX4_wavesTo_15 ?_
    exact L18  _ _ _ _ ls hF ha (lq_sub hl rfl)
  · refine g_aload_n (i := 0) K hl dX4_wavesTo_7 rfl rfl ?_
    refine mget_56 K dX4_wavesTo_8 ?_
    refine g_goto (tgt := 18) K dX4_wavesTo_11 (by decide) ?_
    exact L18  _ _ _ _ ls hF ha (lq_sub hl rfl)

theorem cp_wave : cpV yX4_wave cX4_wave 3 (some .int) 1 := ⟨q2138, q2139, q152, q2140, by decide +kernel⟩
set_option maxHeartbeats 4000000 in
set_option maxRecDepth 100000 in
theorem w_wave {l : Launch} {D : va_G} {cz : Nat → ClassId} {qm : Nat} (G : Nat) (σ0 : MS) (a0 : Int32) (r : (Int32 × MS)) (hF : M_wave G σ0 a0 = some r) : mMet l D cz qm yX4_wave cX4_wave 3 (some .int) 4 wr_wave [.ref qm, .int a0] σ0 (some (.int r.1)) r.2 := by
  refine m_of (by decide) rfl ?_
  intro p e s m args below meth c ls K hl
  have ha : ag wr_wave σ0 σ0 := ag.rf
  unfold M_wave at hF
  refine g_iload_n (i := 1) K hl dX4_wave_0 rfl rfl ?_
  refine g_iconst K dX4_wave_1 lc_0 ?_
  refine g_iconst K dX4_wave_2 lc_3 ?_
  refine m_callSP K hl hF (fun t h => w_isIn _ _ _ _ t h) cp_isIn q2008 rfl rfl rfl rfl rfl dX4_wave_3 (fun t1 hF => ?_)
  refine g_if_ne (tgt := 11) K hF dX4_wave_6 (by decide) (fun hF => ?_) (fun hF => ?_)
  · refine g_aload_n (i := 0) K hl dX4_wave_11 rfl rfl ?_
    refine m_callVV K hl hF ha rfl (fun t h => w_act G _  t h) rfl cp_act q2098 rfl rfl rfl rfl rfl dX4_wave_12 (fun σ2 hF ha => ?_)
    refine g_aload_n (i := 0) K hl dX4_wave_15 rfl rfl ?_
    refine m_callVV K hl hF ha rfl (fun t h => w_load G _  t h) rfl cp_load q2027 rfl rfl rfl rfl rfl dX4_wave_16 (fun σ3 hF ha => ?_)
    refine g_aload_n (i := 0) K hl dX4_wave_19 rfl rfl ?_
    refine g_iload_n (i := 1) K hl dX4_wave_20 rfl rfl ?_
    refine m_callVW K hl hF ha rfl (fun t h => w_wavesTo G _ _ t h) rfl cp_wavesTo q2141 rfl rfl rfl rfl rfl dX4_wave_21 (fun t5 σ4 hF ha => ?_)
    refine g_istore_n (i := 2) K hl dX4_wave_24 rfl rfl rfl (fun ls hl => ?_)
    refine g_aload_n (i := 0) K hl dX4_wave_25 rfl rfl ?_
    refine m_callVV K hl hF ha rfl (fun t h => w_keep G _  t h) rfl cp_keep q1992 rfl rfl rfl rfl rfl dX4_wave_26 (fun σ6 hF ha => ?_)
    refine g_iload_n (i := 2) K hl dX4_wave_29 rfl rfl ?_
    exact m_iretW K hF ha dX4_wave_30
  · refine g_iconst K dX4_wave_9 lc_m1 ?_
    exact m_iretW K hF ha dX4_wave_10

theorem cp_party : cpV yX4_party cX4_party 5 (some .int) 1 := ⟨q2150, q2151, q152, q2152, by decide +kernel⟩
set_option maxHeartbeats 4000000 in
set_option maxRecDepth 100000 in
theorem w_party {l : Launch} {D : va_G} {cz : Nat → ClassId} {qm : Nat} (G : Nat) (σ0 : MS) (a0 : Int32) (r : (Int32 × MS)) (hF : M_party G σ0 a0 = some r) : mMet l D cz qm yX4_party cX4_party 5 (some .int) 7 wr_party [.ref qm, .int a0] σ0 (some (.int r.1)) r.2 := by
  refine m_of (by decide) rfl ?_
  intro p e s m args below meth c ls K hl
  have B32 : ∀ (k24 : MS → Int32 → Int32 → Int32 → Option (Int32 × MS)) (hk24 : (∀ (σ : MS) (x1 : Int32) (x2 : Int32) (x3 : Int32) (ls : Array Slot), k24 σ x1 x2 x3 = some r → ag wr_party σ0 σ → lq ls 5 [(0, some (.ref qm)), (1, some (.int x1)), (2, some (.int x2)), (3, some (.int x3))] → ZM p l e 7 s m args below meth c D cz qm wr_party σ0 (some (.int r.1)) r.2 σ (F0 m 24 ls []))) (k32 : MS → Int32 → Int32 → Int32 → Int32 → Option (Int32 × MS)) (hk32 : (∀ (σ : MS) (x1 : Int32) (x2 : Int32) (x3 : Int32) (x4 : Int32) (ls : Array Slot), k32 σ x1 x2 x3 x4 = some r → ag wr_party σ0 σ → lq ls 5 [(0, some (.ref qm)), (1, some (.int x1)), (2, some (.int x2)), (3, some (.int x3)), (4, some (.int x4))] → ZM p l e 7 s m args below meth c D cz qm wr_party σ0 (some (.int r.1)) r.2 σ (F0 m 32 ls []))) (σ : MS) (x1 : Int32) (x2 : Int32) (x3 : Int32) (x4 : Int32) (ls : Array Slot), M_party_B32 G k24 k32 σ x1 x2 x3 x4 = some r → ag wr_party σ0 σ → lq ls 5 [(0, some (.ref qm)), (1, some (.int x1)), (2, some (.int x2)), (3, some (.int x3)), (4, some (.int x4))] → ZM p l e 7 s m args below meth c D cz qm wr_party σ0 (some (.int r.1)) r.2 σ (F0 m 32 ls []) := by
    intro k24 hk24 k32 hk32 σ x1 x2 x3 x4 ls hF ha hl
    unfold M_party_B32 at hF
    refine g_iload (i := 4) K hl dX4_party_32 rfl ?_
    refine g_aload_n (i := 0) K hl dX4_party_34 rfl rfl ?_
    refine mget_61 K dX4_party_35 ?_
    refine g_icmp_ge (tgt := 71) K hF dX4_party_38 (by decide) (fun hF => ?_) (fun hF => ?_)
    · refine g_iinc (i := 3) K hl dX4_party_71 rfl lc_1 rfl rfl (fun ls hl => ?_)
      refine g_goto (tgt := 24) K dX4_party_74 (by decide) ?_
      exact hk24 _ _ _ _ ls hF ha (lq_sub hl rfl)
    · refine g_iload_n (i := 2) K hl dX4_party_41 rfl rfl ?_
      refine g_aload_n (i := 0) K hl dX4_party_42 rfl rfl ?_
      refine g_iload (i := 4) K hl dX4_party_43 rfl ?_
      refine g_aload_n (i := 0) K hl dX4_party_45 rfl rfl ?_
      refine mget_47 K dX4_party_46 ?_
      refine g_iload (i := 4) K hl dX4_party_49 rfl ?_
      refine mld_47 K hF dX4_party_51 (fun t1 hF => ?_)
      refine m_callVW K hl hF ha rfl (fun t h => w_actsBy G _ _ _ t h) rfl cp_actsBy q2153 rfl rfl rfl rfl rfl dX4_party_52 (fun t3 σ2 hF ha => ?_)
      refine g_if_eq (tgt := 62) K hF dX4_party_55 (by decide) (fun hF => ?_) (fun hF => ?_)
      · refine g_iconst K dX4_party_62 lc_0 ?_
        refine g_iadd K dX4_party_63 ?_
        refine g_istore_n (i := 2) K hl dX4_party_64 rfl rfl rfl (fun ls hl => ?_)
        refine g_iinc (i := 4) K hl dX4_party_65 rfl lc_1 rfl rfl (fun ls hl => ?_)
        refine g_goto (tgt := 32) K dX4_party_68 (by decide) ?_
        exact hk32 _ _ _ _ _ ls hF ha (lq_sub hl rfl)
      · refine g_iconst K dX4_party_58 lc_1 ?_
        refine g_goto (tgt := 63) K dX4_party_59 (by decide) ?_
        refine g_iadd K dX4_party_63 ?_
        refine g_istore_n (i := 2) K hl dX4_party_64 rfl rfl rfl (fun ls hl => ?_)
        refine g_iinc (i := 4) K hl dX4_party_65 rfl lc_1 rfl rfl (fun ls hl => ?_)
        refine g_goto (tgt := 32) K dX4_party_68 (by decide) ?_
        exact hk32 _ _ _ _ _ ls hF ha (lq_sub hl rfl)
  have L32 : ∀ (k24 : MS → Int32 → Int32 → Int32 → Option (Int32 × MS)) (hk24 : (∀ (σ : MS) (x1 : Int32) (x2 : Int32) (x3 : Int32) (ls : Array Slot), k24 σ x1 x2 x3 = some r → ag wr_party σ0 σ → lq ls 5 [(0, some (.ref qm)), (1, some (.int x1)), (2, some (.int x2)), (3, some (.int x3))] → ZM p l e 7 s m args below meth c D cz qm wr_party σ0 (some (.int r.1)) r.2 σ (F0 m 24 ls []))) (n : Nat) (σ : MS) (x1 : Int32) (x2 : Int32) (x3 : Int32) (x4 : Int32) (ls : Array Slot), M_party_L32 G k24 n σ x1 x2 x3 x4 = some r → ag wr_party σ0 σ → lq ls 5 [(0, some (.ref qm)), (1, some (.int x1)), (2, some (.int x2)), (3, some (.int x3)), (4, some (.int x4))] → ZM p l e 7 s m args below meth c D cz qm wr_party σ0 (some (.int r.1)) r.2 σ (F0 m 32 ls []) := by
    intro k24 hk24 n
    induction n with
    | zero => intro σ x1 x2 x3 x4 ls hF; exact absurd hF (fun h => by cases h)
    | succ n ih => intro σ x1 x2 x3 x4 ls hF ha hl; exact B32 k24 hk24 _ ih _ _ _ _ _ ls hF ha hl
  have B24 : ∀ (k24 : MS → Int32 → Int32 → Int32 → Option (Int32 × MS)) (hk24 : (∀ (σ : MS) (x1 : Int32) (x2 : Int32) (x3 : Int32) (ls : Array Slot), k24 σ x1 x2 x3 = some r → ag wr_party σ0 σ → lq ls 5 [(0, some (.ref qm)), (1, some (.int x1)), (2, some (.int x2)), (3, some (.int x3))] → ZM p l e 7 s m args below meth c D cz qm wr_party σ0 (some (.int r.1)) r.2 σ (F0 m 24 ls []))) (σ : MS) (x1 : Int32) (x2 : Int32) (x3 : Int32) (ls : Array Slot), M_party_B24 G k24 σ x1 x2 x3 = some r → ag wr_party σ0 σ → lq ls 5 [(0, some (.ref qm)), (1, some (.int x1)), (2, some (.int x2)), (3, some (.int x3))] → ZM p l e 7 s m args below meth c D cz qm wr_party σ0 (some (.int r.1)) r.2 σ (F0 m 24 ls []) := by
    intro k24 hk24 σ x1 x2 x3 ls hF ha hl
    unfold M_party_B24 at hF
    refine g_iload_n (i := 3) K hl dX4_party_24 rfl rfl ?_
    refine g_iload_n (i := 1) K hl dX4_party_25 rfl rfl ?_
    refine g_icmp_ge (tgt := 77) K hF dX4_party_26 (by decide) (fun hF => ?_) (fun hF => ?_)
    · refine g_aload_n (i := 0) K hl dX4_party_77 rfl rfl ?_
      refine m_callVV K hl hF ha rfl (fun t h => w_keep G _  t h) rfl cp_keep q1992 rfl rfl rfl rfl rfl dX4_party_78 (fun σ1 hF ha => ?_)
      refine g_iload_n (i := 2) K hl dX4_party_81 rfl rfl ?_
      exact m_iretW K hF ha dX4_party_82
    · refine g_iconst K dX4_party_29 lc_0 ?_
      refine g_istore (i := 4) K hl dX4_party_30 rfl rfl (fun ls hl => ?_)
      exact L32 k24 hk24 G _ _ _ _ _ ls hF ha (lq_sub hl rfl)
  have L24 : ∀  (n : Nat) (σ : MS) (x1 : Int32) (x2 : Int32) (x3 : Int32) (ls : Array Slot), M_party_L24 G  n σ x1 x2 x3 = some r → ag wr_party σ0 σ → lq ls 5 [(0, some (.ref qm)), (1, some (.int x1)), (2, some (.int x2)), (3, some (.int x3))] → ZM p l e 7 s m args below meth c D cz qm wr_party σ0 (some (.int r.1)) r.2 σ (F0 m 24 ls []) := by
    intro  n
    induction n with
    | zero => intro σ x1 x2 x3 ls hF; exact absurd hF (fun h => by cases h)
    | succ n ih => intro σ x1 x2 x3 ls hF ha hl; exact B24  _ ih _ _ _ _ ls hF ha hl
  have ha : ag wr_party σ0 σ0 := ag.rf
  unfold M_party at hF
  refine g_iload_n (i := 1) K hl dX4_party_0 rfl rfl ?_
  refine g_iconst K dX4_party_1 lc_0 ?_
  refine g_bipush K dX4_party_2 lb_20 ?_
  refine m_callSP K hl hF (fun t h => w_isIn _ _ _ _ t h) cp_isIn q2008 rfl rfl rfl rfl rfl dX4_party_4 (fun t1 hF => ?_)
  refine g_if_ne (tgt := 12) K hF dX4_party_7 (by decide) (fun hF => ?_) (fun hF => ?_)
  · refine g_aload_n (i := 0) K hl dX4_party_12 rfl rfl ?_
    refine m_callVV K hl hF ha rfl (fun t h => w_act G _  t h) rfl cp_act q2098 rfl rfl rfl rfl rfl dX4_party_13 (fun σ2 hF ha => ?_)
    refine g_aload_n (i := 0) K hl dX4_party_16 rfl rfl ?_
    refine m_callVV K hl hF ha rfl (fun t h => w_load G _  t h) rfl cp_load q2027 rfl rfl rfl rfl rfl dX4_party_17 (fun σ3 hF ha => ?_)
    refine g_iconst K dX4_party_20 lc_0 ?_
    refine g_istore_n (i := 2) K hl dX4_party_21 rfl rfl rfl (fun ls hl => ?_)
    refine g_iconst K dX4_party_22 lc_0 ?_
    refine g_istore_n (i := 3) K hl dX4_party_23 rfl rfl rfl (fun ls hl => ?_)
    exact L24  G _ _ _ _ ls hF ha (lq_sub hl rfl)
  · refine g_iconst K dX4_party_10 lc_m1 ?_
    exact m_iretW K hF ha dX4_party_11

theorem cp_undo : cpV yX4_undo cX4_undo 1 (some .boolean) 0 := ⟨q2158, q2159, q152, q2160, by decide +kernel⟩
set_option maxHeartbeats 4000000 in
set_option maxRecDepth 100000 in
theorem w_undo {l : Launch} {D : va_G} {cz : Nat → ClassId} {qm : Nat} (G : Nat) (σ0 : MS)  (r : (Int32 × MS)) (hF : M_undo G σ0 = some r) : mMet l D cz qm yX4_undo cX4_undo 1 (some .boolean) 1 wr_undo [.ref qm] σ0 (some (.int r.1)) r.2 := by
  refine m_of (by decide) rfl ?_
  intro p e s m args below meth c ls K hl
  have ha : ag wr_undo σ0 σ0 := ag.rf
  unfold M_undo at hF
  refine g_aload_n (i := 0) K hl dX4_undo_0 rfl rfl ?_
  refine mget_71 K dX4_undo_1 ?_
  refine g_if_ne (tgt := 9) K hF dX4_undo_4 (by decide) (fun hF => ?_) (fun hF => ?_)
  · refine g_aload_n (i := 0) K hl dX4_undo_9 rfl rfl ?_
    refine g_dup K dX4_undo_10 rfl ?_
    refine mget_71 K dX4_undo_11 ?_
    refine g_iconst K dX4_undo_14 lc_1 ?_
    refine g_isub K dX4_undo_15 ?_
    refine mput_71 K hF ha rfl dX4_undo_16 (fun σ1 hF ha => ?_)
    refine g_aload_n (i := 0) K hl dX4_undo_19 rfl rfl ?_
    refine g_dup K dX4_undo_20 rfl ?_
    refine mget_72 K dX4_undo_21 ?_
    refine g_iconst K dX4_undo_24 lc_1 ?_
    refine g_iadd K dX4_undo_25 ?_
    refine mput_72 K hF ha rfl dX4_undo_26 (fun σ2 hF ha => ?_)
    refine g_aload_n (i := 0) K hl dX4_undo_29 rfl rfl ?_
    refine g_sipush K dX4_undo_30 ls_128 ?_
    refine g_aload_n (i := 0) K hl dX4_undo_33 rfl rfl ?_
    refine mget_71 K dX4_undo_34 ?_
    refine g_imul K dX4_undo_37 ?_
    refine m_callVV K hl hF ha rfl (fun t h => w_exchange G _ _ t h) rfl cp_exchange q2161 rfl rfl rfl rfl rfl dX4_undo_38 (fun σ3 hF ha => ?_)
    refine g_iconst K dX4_undo_41 lc_1 ?_
    exact m_zretW K hF (Or.inr rfl) ha dX4_undo_42
  · refine g_iconst K dX4_undo_7 lc_0 ?_
    exact m_zretW K hF (Or.inl rfl) ha dX4_undo_8

theorem cp_redo : cpV yX4_redo cX4_redo 1 (some .boolean) 0 := ⟨q2166, q2167, q152, q2168, by decide +kernel⟩
set_option maxHeartbeats 4000000 in
set_option maxRecDepth 100000 in
theorem w_redo {l : Launch} {D : va_G} {cz : Nat → ClassId} {qm : Nat} (G : Nat) (σ0 : MS)  (r : (Int32 × MS)) (hF : M_redo G σ0 = some r) : mMet l D cz qm yX4_redo cX4_redo 1 (some .boolean) 1 wr_redo [.ref qm] σ0 (some (.int r.1)) r.2 := by
  refine m_of (by decide) rfl ?_
  intro p e s m args below meth c ls K hl
  have ha : ag wr_redo σ0 σ0 := ag.rf
  unfold M_redo at hF
  refine g_aload_n (i := 0) K hl dX4_redo_0 rfl rfl ?_
  refine mget_72 K dX4_redo_1 ?_
  refine g_if_ne (tgt := 9) K hF dX4_redo_4 (by decide) (fun hF => ?_) (fun hF => ?_)
  · refine g_aload_n (i := 0) K hl dX4_redo_9 rfl rfl ?_
    refine g_sipush K dX4_redo_10 ls_128 ?_
    refine g_aload_n (i := 0) K hl dX4_redo_13 rfl rfl ?_
    refine mget_71 K dX4_redo_14 ?_
    refine g_imul K dX4_redo_17 ?_
    refine m_callVV K hl hF ha rfl (fun t h => w_exchange G _ _ t h) rfl cp_exchange q2161 rfl rfl rfl rfl rfl dX4_redo_18 (fun σ1 hF ha => ?_)
    refine g_aload_n (i := 0) K hl dX4_redo_21 rfl rfl ?_
    refine g_dup K dX4_redo_22 rfl ?_
    refine mget_71 K dX4_redo_23 ?_
    refine g_iconst K dX4_redo_26 lc_1 ?_
    refine g_iadd K dX4_redo_27 ?_
    refine mput_71 K hF ha rfl dX4_redo_28 (fun σ2 hF ha => ?_)
    refine g_aload_n (i := 0) K hl dX4_redo_31 rfl rfl ?_
    refine g_dup K dX4_redo_32 rfl ?_
    refine mget_72 K dX4_redo_33 ?_
    refine g_iconst K dX4_redo_36 lc_1 ?_
    refine g_isub K dX4_redo_37 ?_
    refine mput_72 K hF ha rfl dX4_redo_38 (fun σ3 hF ha => ?_)
    refine g_iconst K dX4_redo_41 lc_1 ?_
    exact m_zretW K hF (Or.inr rfl) ha dX4_redo_42
  · refine g_iconst K dX4_redo_7 lc_0 ?_
    exact m_zretW K hF (Or.inl rfl) ha dX4_redo_8

theorem cp_loadRow : cpV yX4_loadRow cX4_loadRow 3 none 1 := ⟨q2183, qs127, q152, q2184, by decide +kernel⟩
set_option maxHeartbeats 4000000 in
set_option maxRecDepth 100000 in
theorem w_loadRow {l : Launch} {D : va_G} {cz : Nat → ClassId} {qm : Nat} (G : Nat) (σ0 : MS) (a0 : Int32) (r : MS) (hF : M_loadRow G σ0 a0 = some r) : mMet l D cz qm yX4_loadRow cX4_loadRow 3 none 0 wr_loadRow [.ref qm, .int a0] σ0 none r := by
  refine m_of (by decide) rfl ?_
  intro p e s m args below meth c ls K hl
  have B2 : ∀ (k2 : MS → Int32 → Int32 → Option MS) (hk2 : (∀ (σ : MS) (x1 : Int32) (x2 : Int32) (ls : Array Slot), k2 σ x1 x2 = some r → ag wr_loadRow σ0 σ → lq ls 3 [(0, some (.ref qm)), (1, some (.int x1)), (2, some (.int x2))] → ZM p l e 0 s m args below meth c D cz qm wr_loadRow σ0 none r σ (F0 m 2 ls []))) (σ : MS) (x1 : Int32) (x2 : Int32) (ls : Array Slot), M_loadRow_B2 G k2 σ x1 x2 = some r → ag wr_loadRow σ0 σ → lq ls 3 [(0, some (.ref qm)), (1, some (.int x1)), (2, some (.int x2))] → ZM p l e 0 s m args below meth c D cz qm wr_loadRow σ0 none r σ (F0 m 2 ls []) := by
    intro k2 hk2 σ x1 x2 ls hF ha hl
    unfold M_loadRow_B2 at hF
    refine g_iload_n (i := 2) K hl dX4_loadRow_2 rfl rfl ?_
    refine g_bipush K dX4_loadRow_3 lb_123 ?_
    refine g_icmp_ge (tgt := 32) K hF dX4_loadRow_5 (by decide) (fun hF => ?_) (fun hF => ?_)
    · exact m_vretV K hF ha dX4_loadRow_32
    · refine g_aload_n (i := 0) K hl dX4_loadRow_8 rfl rfl ?_
      refine mget_66 K dX4_loadRow_9 ?_
      refine g_iload_n (i := 2) K hl dX4_loadRow_12 rfl rfl ?_
      refine g_aload_n (i := 0) K hl dX4_loadRow_13 rfl rfl ?_
      refine mget_73 K dX4_loadRow_14 ?_
      refine g_sipush K dX4_loadRow_17 ls_128 ?_
      refine g_iload_n (i := 1) K hl dX4_loadRow_20 rfl rfl ?_
      refine g_imul K dX4_loadRow_21 ?_
      refine g_iload_n (i := 2) K hl dX4_loadRow_22 rfl rfl ?_
      refine g_iadd K dX4_loadRow_23 ?_
      refine mld_73 K hF dX4_loadRow_24 (fun t1 hF => ?_)
      refine mst_66 K hF ha rfl dX4_loadRow_25 (fun σ2 hF ha => ?_)
      refine g_iinc (i := 2) K hl dX4_loadRow_26 rfl lc_1 rfl rfl (fun ls hl => ?_)
      refine g_goto (tgt := 2) K dX4_loadRow_29 (by decide) ?_
      exact hk2 _ _ _ ls hF ha (lq_sub hl rfl)
  have L2 : ∀  (n : Nat) (σ : MS) (x1 : Int32) (x2 : Int32) (ls : Array Slot), M_loadRow_L2 G  n σ x1 x2 = some r → ag wr_loadRow σ0 σ → lq ls 3 [(0, some (.ref qm)), (1, some (.int x1)), (2, some (.int x2))] → ZM p l e 0 s m args below meth c D cz qm wr_loadRow σ0 none r σ (F0 m 2 ls []) := by
    intro  n
    induction n with
    | zero => intro σ x1 x2 ls hF; exact absurd hF (fun h => by cases h)
    | succ n ih => intro σ x1 x2 ls hF ha hl; exact B2  _ ih _ _ _ ls hF ha hl
  have ha : ag wr_loadRow σ0 σ0 := ag.rf
  unfold M_loadRow at hF
  refine g_iconst K dX4_loadRow_0 lc_0 ?_
  refine g_istore_n (i := 2) K hl dX4_loadRow_1 rfl rfl rfl (fun ls hl => ?_)
  exact L2  G _ _ _ ls hF ha (lq_sub hl rfl)

theorem cp_goDeeper : cpV yX4_goDeeper cX4_goDeeper 4 none 2 := ⟨q2179, qs126, q152, q2180, by decide +kernel⟩
set_option maxHeartbeats 4000000 in
set_option maxRecDepth 100000 in
theorem w_goDeeper {l : Launch} {D : va_G} {cz : Nat → ClassId} {qm : Nat} (G : Nat) (σ0 : MS) (a0 : Int32) (a1 : Int32) (r : MS) (hF : M_goDeeper G σ0 a0 a1 = some r) : mMet l D cz qm yX4_goDeeper cX4_goDeeper 4 none 0 wr_goDeeper [.ref qm, .int a0, .int a1] σ0 none r := by
  refine m_of (by decide) rfl ?_
  intro p e s m args below meth c ls K hl
  have B2 : ∀ (k2 : MS → Int32 → Int32 → Int32 → Option MS) (hk2 : (∀ (σ : MS) (x1 : Int32) (x2 : Int32) (x3 : Int32) (ls : Array Slot), k2 σ x1 x2 x3 = some r → ag wr_goDeeper σ0 σ → lq ls 4 [(0, some (.ref qm)), (1, some (.int x1)), (2, some (.int x2)), (3, some (.int x3))] → ZM p l e 0 s m args below meth c D cz qm wr_goDeeper σ0 none r σ (F0 m 2 ls []))) (σ : MS) (x1 : Int32) (x2 : Int32) (x3 : Int32) (ls : Array Slot), M_goDeeper_B2 G k2 σ x1 x2 x3 = some r → ag wr_goDeeper σ0 σ → lq ls 4 [(0, some (.ref qm)), (1, some (.int x1)), (2, some (.int x2)), (3, some (.int x3))] → ZM p l e 0 s m args below meth c D cz qm wr_goDeeper σ0 none r σ (F0 m 2 ls []) := by
    intro k2 hk2 σ x1 x2 x3 ls hF ha hl
    unfold M_goDeeper_B2 at hF
    refine g_iload_n (i := 3) K hl dX4_goDeeper_2 rfl rfl ?_
    refine g_bipush K dX4_goDeeper_3 lb_123 ?_
    refine g_icmp_ge (tgt := 32) K hF dX4_goDeeper_5 (by decide) (fun hF => ?_) (fun hF => ?_)
    · refine g_aload_n (i := 0) K hl dX4_goDeeper_32 rfl rfl ?_
      refine mget_74 K dX4_goDeeper_33 ?_
      refine g_iload_n (i := 1) K hl dX4_goDeeper_36 rfl rfl ?_
      refine g_iload_n (i := 2) K hl dX4_goDeeper_37 rfl rfl ?_
      refine mst_74 K hF ha rfl dX4_goDeeper_38 (fun σ1 hF ha => ?_)
      refine g_aload_n (i := 0) K hl dX4_goDeeper_39 rfl rfl ?_
      refine mget_75 K dX4_goDeeper_40 ?_
      refine g_iload_n (i := 1) K hl dX4_goDeeper_43 rfl rfl ?_
      refine g_iconst K dX4_goDeeper_44 lc_m1 ?_
      refine mst_75 K hF ha rfl dX4_goDeeper_45 (fun σ2 hF ha => ?_)
      refine g_aload_n (i := 0) K hl dX4_goDeeper_46 rfl rfl ?_
      refine mget_76 K dX4_goDeeper_47 ?_
      refine g_iload_n (i := 1) K hl dX4_goDeeper_50 rfl rfl ?_
      refine g_iconst K dX4_goDeeper_51 lc_0 ?_
      refine mst_76 K hF ha rfl dX4_goDeeper_52 (fun σ3 hF ha => ?_)
      refine g_aload_n (i := 0) K hl dX4_goDeeper_53 rfl rfl ?_
      refine mget_78 K dX4_goDeeper_54 ?_
      refine g_iload_n (i := 1) K hl dX4_goDeeper_57 rfl rfl ?_
      refine g_iconst K dX4_goDeeper_58 lc_0 ?_
      refine mst_78 K hF ha rfl dX4_goDeeper_59 (fun σ4 hF ha => ?_)
      refine g_aload_n (i := 0) K hl dX4_goDeeper_60 rfl rfl ?_
      refine mget_79 K dX4_goDeeper_61 ?_
      refine g_iload_n (i := 1) K hl dX4_goDeeper_64 rfl rfl ?_
      refine g_iconst K dX4_goDeeper_65 lc_m1 ?_
      refine mst_79 K hF ha rfl dX4_goDeeper_66 (fun σ5 hF ha => ?_)
      refine g_aload_n (i := 0) K hl dX4_goDeeper_67 rfl rfl ?_
      refine g_dup K dX4_goDeeper_68 rfl ?_
      refine mget_80 K dX4_goDeeper_69 ?_
      refine g_iconst K dX4_goDeeper_72 lc_1 ?_
      refine g_iadd K dX4_goDeeper_73 ?_
      refine mput_80 K hF ha rfl dX4_goDeeper_74 (fun σ6 hF ha => ?_)
      exact m_vretV K hF ha dX4_goDeeper_77
    · refine g_aload_n (i := 0) K hl dX4_goDeeper_8 rfl rfl ?_
      refine mget_73 K dX4_goDeeper_9 ?_
      refine g_sipush K dX4_goDeeper_12 ls_128 ?_
      refine g_iload_n (i := 1) K hl dX4_goDeeper_15 rfl rfl ?_
      refine g_imul K dX4_goDeeper_16 ?_
      refine g_iload_n (i := 3) K hl dX4_goDeeper_17 rfl rfl ?_
      refine g_iadd K dX4_goDeeper_18 ?_
      refine g_aload_n (i := 0) K hl dX4_goDeeper_19 rfl rfl ?_
      refine mget_66 K dX4_goDeeper_20 ?_
      refine g_iload_n (i := 3) K hl dX4_goDeeper_23 rfl rfl ?_
      refine mld_66 K hF dX4_goDeeper_24 (fun t7 hF => ?_)
      refine mst_73 K hF ha rfl dX4_goDeeper_25 (fun σ8 hF ha => ?_)
      refine g_iinc (i := 3) K hl dX4_goDeeper_26 rfl lc_1 rfl rfl (fun ls hl => ?_)
      refine g_goto (tgt := 2) K dX4_goDeeper_29 (by decide) ?_
      exact hk2 _ _ _ _ ls hF ha (lq_sub hl rfl)
  have L2 : ∀  (n : Nat) (σ : MS) (x1 : Int32) (x2 : Int32) (x3 : Int32) (ls : Array Slot), M_goDeeper_L2 G  n σ x1 x2 x3 = some r → ag wr_goDeeper σ0 σ → lq ls 4 [(0, some (.ref qm)), (1, some (.int x1)), (2, some (.int x2)), (3, some (.int x3))] → ZM p l e 0 s m args below meth c D cz qm wr_goDeeper σ0 none r σ (F0 m 2 ls []) := by
    intro  n
    induction n with
    | zero => intro σ x1 x2 x3 ls hF; exact absurd hF (fun h => by cases h)
    | succ n ih => intro σ x1 x2 x3 ls hF ha hl; exact B2  _ ih _ _ _ _ ls hF ha hl
  have ha : ag wr_goDeeper σ0 σ0 := ag.rf
  unfold M_goDeeper at hF
  refine g_iconst K dX4_goDeeper_0 lc_0 ?_
  refine g_istore_n (i := 3) K hl dX4_goDeeper_1 rfl rfl rfl (fun ls hl => ?_)
  exact L2  G _ _ _ _ ls hF ha (lq_sub hl rfl)

theorem cp_mayGo : cpV yX4_mayGo cX4_mayGo 4 (some .boolean) 3 := ⟨q2187, qs128, q152, q2188, by decide +kernel⟩
set_option maxHeartbeats 4000000 in
set_option maxRecDepth 100000 in
theorem w_mayGo {l : Launch} {D : va_G} {cz : Nat → ClassId} {qm : Nat} (G : Nat) (σ0 : MS) (a0 : Int32) (a1 : Int32) (a2 : Int32) (r : (Int32 × MS)) (hF : M_mayGo G σ0 a0 a1 a2 = some r) : mMet l D cz qm yX4_mayGo cX4_mayGo 4 (some .boolean) 4 wr_mayGo [.ref qm, .int a0, .int a1, .int a2] σ0 (some (.int r.1)) r.2 := by
  refine m_of (by decide) rfl ?_
  intro p e s m args below meth c ls K hl
  have ha : ag wr_mayGo σ0 σ0 := ag.rf
  unfold M_mayGo at hF
  refine g_iload_n (i := 3) K hl dX4_mayGo_0 rfl rfl ?_
  refine g_bipush K dX4_mayGo_1 lb_50 ?_
  refine g_icmp_ne (tgt := 42) K hF dX4_mayGo_3 (by decide) (fun hF => ?_) (fun hF => ?_)
  · refine g_iload_n (i := 3) K hl dX4_mayGo_42 rfl rfl ?_
    refine g_iconst K dX4_mayGo_43 lc_5 ?_
    refine g_idivT K hF dX4_mayGo_44 (fun t1 hF => ?_)
    refine g_aload_n (i := 0) K hl dX4_mayGo_45 rfl rfl ?_
    refine mget_60 K dX4_mayGo_46 ?_
    refine g_icmp_ge (tgt := 85) K hF dX4_mayGo_49 (by decide) (fun hF => ?_) (fun hF => ?_)
    · refine g_iconst K dX4_mayGo_85 lc_0 ?_
      exact m_zretW K hF (Or.inl rfl) ha dX4_mayGo_86
    · refine g_aload_n (i := 0) K hl dX4_mayGo_52 rfl rfl ?_
      refine mget_74 K dX4_mayGo_53 ?_
      refine g_iload_n (i := 2) K hl dX4_mayGo_56 rfl rfl ?_
      refine mld_74 K hF dX4_mayGo_57 (fun t2 hF => ?_)
      refine g_iload_n (i := 3) K hl dX4_mayGo_58 rfl rfl ?_
      refine g_iconst K dX4_mayGo_59 lc_5 ?_
      refine g_iremT K hF dX4_mayGo_60 (fun t3 hF => ?_)
      refine m_callSP K hl hF (fun t h => w_seconds _ _ t h) cp_seconds q2114 rfl rfl rfl rfl rfl dX4_mayGo_61 (fun t4 hF => ?_)
      refine g_icmp_lt (tgt := 85) K hF dX4_mayGo_64 (by decide) (fun hF => ?_) (fun hF => ?_)
      · refine g_iconst K dX4_mayGo_85 lc_0 ?_
        exact m_zretW K hF (Or.inl rfl) ha dX4_mayGo_86
      · refine g_aload_n (i := 0) K hl dX4_mayGo_67 rfl rfl ?_
        refine g_iload_n (i := 1) K hl dX4_mayGo_68 rfl rfl ?_
        refine g_iload_n (i := 3) K hl dX4_mayGo_69 rfl rfl ?_
        refine g_iconst K dX4_mayGo_70 lc_5 ?_
        refine g_idivT K hF dX4_mayGo_71 (fun t5 hF => ?_)
        refine g_iload_n (i := 3) K hl dX4_mayGo_72 rfl rfl ?_
        refine g_iconst K dX4_mayGo_73 lc_5 ?_
        refine g_iremT K hF dX4_mayGo_74 (fun t6 hF => ?_)
        refine m_callVW K hl hF ha rfl (fun t h => w_canTry G _ _ _ _ t h) rfl cp_canTry q2031 rfl rfl rfl rfl rfl dX4_mayGo_75 (fun t8 σ7 hF ha => ?_)
        refine g_if_eq (tgt := 85) K hF dX4_mayGo_78 (by decide) (fun hF => ?_) (fun hF => ?_)
        · refine g_iconst K dX4_mayGo_85 lc_0 ?_
          exact m_zretW K hF (Or.inl rfl) ha dX4_mayGo_86
        · refine g_iconst K dX4_mayGo_81 lc_1 ?_
          refine g_goto (tgt := 86) K dX4_mayGo_82 (by decide) ?_
          exact m_zretW K hF (Or.inr rfl) ha dX4_mayGo_86
  · refine g_aload_n (i := 0) K hl dX4_mayGo_6 rfl rfl ?_
    refine mget_74 K dX4_mayGo_7 ?_
    refine g_iload_n (i := 2) K hl dX4_mayGo_10 rfl rfl ?_
    refine mld_74 K hF dX4_mayGo_11 (fun t9 hF => ?_)
    refine g_iconst K dX4_mayGo_12 lc_2 ?_
    refine g_icmp_lt (tgt := 40) K hF dX4_mayGo_13 (by decide) (fun hF => ?_) (fun hF => ?_)
    · refine g_iconst K dX4_mayGo_40 lc_0 ?_
      exact m_zretW K hF (Or.inl rfl) ha dX4_mayGo_41
    · refine g_aload_n (i := 0) K hl dX4_mayGo_16 rfl rfl ?_
      refine mget_66 K dX4_mayGo_17 ?_
      refine g_bipush K dX4_mayGo_20 lb_50 ?_
      refine g_iconst K dX4_mayGo_22 lc_3 ?_
      refine g_iload_n (i := 1) K hl dX4_mayGo_23 rfl rfl ?_
      refine g_imul K dX4_mayGo_24 ?_
      refine g_iadd K dX4_mayGo_25 ?_
      refine mld_66 K hF dX4_mayGo_26 (fun t10 hF => ?_)
      refine g_aload_n (i := 0) K hl dX4_mayGo_27 rfl rfl ?_
      refine mget_45 K dX4_mayGo_28 ?_
      refine g_iload_n (i := 1) K hl dX4_mayGo_31 rfl rfl ?_
      refine mld_45 K hF dX4_mayGo_32 (fun t11 hF => ?_)
      refine g_icmp_ge (tgt := 40) K hF dX4_mayGo_33 (by decide) (fun hF => ?_) (fun hF => ?_)
      · refine g_iconst K dX4_mayGo_40 lc_0 ?_
        exact m_zretW K hF (Or.inl rfl) ha dX4_mayGo_41
      · refine g_iconst K dX4_mayGo_36 lc_1 ?_
        refine g_goto (tgt := 41) K dX4_mayGo_37 (by decide) ?_
        exact m_zretW K hF (Or.inr rfl) ha dX4_mayGo_41

theorem cp_weigh : cpV yX4_weigh cX4_weigh 3 none 2 := ⟨q2192, qs129, q152, q2193, by decide +kernel⟩
set_option maxHeartbeats 4000000 in
set_option maxRecDepth 100000 in
theorem w_weigh {l : Launch} {D : va_G} {cz : Nat → ClassId} {qm : Nat} (σ0 : MS) (a0 : Int32) (a1 : Int32) (r : MS) (hF : M_weigh σ0 a0 a1 = some r) : mMet l D cz qm yX4_weigh cX4_weigh 3 none 0 wr_weigh [.ref qm, .int a0, .int a1] σ0 none r := by
  refine m_of (by decide) rfl ?_
  intro p e s m args below meth c ls K hl
  have ha : ag wr_weigh σ0 σ0 := ag.rf
  unfold M_weigh at hF
  refine g_iload_n (i := 2) K hl dX4_weigh_0 rfl rfl ?_
  refine g_aload_n (i := 0) K hl dX4_weigh_1 rfl rfl ?_
  refine mget_78 K dX4_weigh_2 ?_
  refine g_iload_n (i := 1) K hl dX4_weigh_5 rfl rfl ?_
  refine mld_78 K hF dX4_weigh_6 (fun t1 hF => ?_)
  refine g_icmp_gt (tgt := 11) K hF dX4_weigh_7 (by decide) (fun hF => ?_) (fun hF => ?_)
  · refine g_aload_n (i := 0) K hl dX4_weigh_11 rfl rfl ?_
    refine mget_78 K dX4_weigh_12 ?_
    refine g_iload_n (i := 1) K hl dX4_weigh_15 rfl rfl ?_
    refine g_iload_n (i := 2) K hl dX4_weigh_16 rfl rfl ?_
    refine mst_78 K hF ha rfl dX4_weigh_17 (fun σ2 hF ha => ?_)
    refine g_aload_n (i := 0) K hl dX4_weigh_18 rfl rfl ?_
    refine mget_79 K dX4_weigh_19 ?_
    refine g_iload_n (i := 1) K hl dX4_weigh_22 rfl rfl ?_
    refine g_aload_n (i := 0) K hl dX4_weigh_23 rfl rfl ?_
    refine mget_75 K dX4_weigh_24 ?_
    refine g_iload_n (i := 1) K hl dX4_weigh_27 rfl rfl ?_
    refine mld_75 K hF dX4_weigh_28 (fun t3 hF => ?_)
    refine mst_79 K hF ha rfl dX4_weigh_29 (fun σ4 hF ha => ?_)
    exact m_vretV K hF ha dX4_weigh_30
  · exact m_vretV K hF ha dX4_weigh_10

theorem cp_layBest : cpV yX4_layBest cX4_layBest 7 (some .boolean) 2 := ⟨q2175, qs125, q152, q2176, by decide +kernel⟩
set_option maxHeartbeats 4000000 in
set_option maxRecDepth 100000 in
theorem w_layBest {l : Launch} {D : va_G} {cz : Nat → ClassId} {qm : Nat} (G : Nat) (σ0 : MS) (a0 : Int32) (a1 : Int32) (r : (Int32 × MS)) (hF : M_layBest G σ0 a0 a1 = some r) : mMet l D cz qm yX4_layBest cX4_layBest 7 (some .boolean) 5 wr_layBest [.ref qm, .int a0, .int a1] σ0 (some (.int r.1)) r.2 := by
  refine m_of (by decide) rfl ?_
  intro p e s m args below meth c ls K hl
  have L348 : ∀  (σ : MS) (ls : Array Slot), M_layBest_L348 G  σ = some r → ag wr_layBest σ0 σ → lq ls 7 [(0, some (.ref qm))] → ZM p l e 5 s m args below meth c D cz qm wr_layBest σ0 (some (.int r.1)) r.2 σ (F0 m 348 ls []) := by
    intro  σ ls hF ha hl
    unfold M_layBest_L348 at hF
    refine g_aload_n (i := 0) K hl dX4_layBest_348 rfl rfl ?_
    refine mget_80 K dX4_layBest_349 ?_
    refine g_sipush K dX4_layBest_352 ls_20000 ?_
    refine g_icmp_gt (tgt := 362) K hF dX4_layBest_355 (by decide) (fun hF => ?_) (fun hF => ?_)
    · refine g_iconst K dX4_layBest_362 lc_0 ?_
      exact m_zretW K hF (Or.inl rfl) ha dX4_layBest_363
    · refine g_iconst K dX4_layBest_358 lc_1 ?_
      refine g_goto (tgt := 363) K dX4_layBest_359 (by decide) ?_
      exact m_zretW K hF (Or.inr rfl) ha dX4_layBest_363
  have L335 : ∀ (k20 : MS → Int32 → Int32 → Int32 → Option (Int32 × MS)) (hk20 : (∀ (σ : MS) (x1 : Int32) (x3 : Int32) (x4 : Int32) (ls : Array Slot), k20 σ x1 x3 x4 = some r → ag wr_layBest σ0 σ → lq ls 7 [(0, some (.ref qm)), (1, some (.int x1)), (3, some (.int x3)), (4, some (.int x4))] → ZM p l e 5 s m args below meth c D cz qm wr_layBest σ0 (some (.int r.1)) r.2 σ (F0 m 20 ls []))) (σ : MS) (x1 : Int32) (x3 : Int32) (x4 : Int32) (s1 : Int32) (s2 : Int32) (ls : Array Slot), M_layBest_L335 G k20 σ x1 x3 x4 s1 s2 = some r → ag wr_layBest σ0 σ → lq ls 7 [(0, some (.ref qm)), (1, some (.int x1)), (3, some (.int x3)), (4, some (.int x4))] → ZM p l e 5 s m args below meth c D cz qm wr_layBest σ0 (some (.int r.1)) r.2 σ (F0 m 335 ls [.int s2, .int s1, .ref qm]) := by
    intro k20 hk20 σ x1 x3 x4 s1 s2 ls hF ha hl
    unfold M_layBest_L335 at hF
    refine m_callVV K hl hF ha rfl (fun t h => w_weigh _ _ _ t h) rfl cp_weigh q2190 rfl rfl rfl rfl rfl dX4_layBest_335 (fun σ1 hF ha => ?_)
    refine g_aload_n (i := 0) K hl dX4_layBest_338 rfl rfl ?_
    refine mget_76 K dX4_layBest_339 ?_
    refine g_iload_n (i := 3) K hl dX4_layBest_342 rfl rfl ?_
    refine g_iconst K dX4_layBest_343 lc_0 ?_
    refine mst_76 K hF ha rfl dX4_layBest_344 (fun σ2 hF ha => ?_)
    refine g_goto (tgt := 20) K dX4_layBest_345 (by decide) ?_
    exact hk20 _ _ _ _ ls hF ha (lq_sub hl rfl)
  have L291 : ∀ (k20 : MS → Int32 → Int32 → Int32 → Option (Int32 × MS)) (hk20 : (∀ (σ : MS) (x1 : Int32) (x3 : Int32) (x4 : Int32) (ls : Array Slot), k20 σ x1 x3 x4 = some r → ag wr_layBest σ0 σ → lq ls 7 [(0, some (.ref qm)), (1, some (.int x1)), (3, some (.int x3)), (4, some (.int x4))] → ZM p l e 5 s m args below meth c D cz qm wr_layBest σ0 (some (.int r.1)) r.2 σ (F0 m 20 ls []))) (σ : MS) (x1 : Int32) (x3 : Int32) (x4 : Int32) (s0 : Int32) (ls : Array Slot), M_layBest_L291 G k20 σ x1 x3 x4 s0 = some r → ag wr_layBest σ0 σ → lq ls 7 [(0, some (.ref qm)), (1, some (.int x1)), (3, some (.int x3)), (4, some (.int x4))] → ZM p l e 5 s m args below meth c D cz qm wr_layBest σ0 (some (.int r.1)) r.2 σ (F0 m 291 ls [.int s0]) := by
    intro k20 hk20 σ x1 x3 x4 s0 ls hF ha hl
    unfold M_layBest_L291 at hF
    refine g_istore (i := 6) K hl dX4_layBest_291 rfl rfl (fun ls hl => ?_)
    refine g_aload_n (i := 0) K hl dX4_layBest_293 rfl rfl ?_
    refine g_iload_n (i := 3) K hl dX4_layBest_294 rfl rfl ?_
    refine g_aload_n (i := 0) K hl dX4_layBest_295 rfl rfl ?_
    refine mget_76 K dX4_layBest_296 ?_
    refine g_iload_n (i := 3) K hl dX4_layBest_299 rfl rfl ?_
    refine mld_76 K hF dX4_layBest_300 (fun t1 hF => ?_)
    refine g_iconst K dX4_layBest_301 lc_2 ?_
    refine g_icmp_ne (tgt := 333) K hF dX4_layBest_302 (by decide) (fun hF => ?_) (fun hF => ?_)
    · refine g_iload (i := 4) K hl dX4_layBest_333 rfl ?_
      exact L335 k20 hk20 _ _ _ _ _ _ ls hF ha (lq_sub hl rfl)
    · refine g_iload (i := 6) K hl dX4_layBest_305 rfl ?_
      refine g_ldcw K dX4_layBest_307 q2189 ?_
      refine g_aload_n (i := 0) K hl dX4_layBest_310 rfl rfl ?_
      refine mget_77 K dX4_layBest_311 ?_
      refine g_iload_n (i := 3) K hl dX4_layBest_314 rfl rfl ?_
      refine mld_77 K hF dX4_layBest_315 (fun t2 hF => ?_)
      refine g_iadd K dX4_layBest_316 ?_
      refine g_imul K dX4_layBest_317 ?_
      refine g_bipush K dX4_layBest_318 lb_100 ?_
      refine g_iload (i := 6) K hl dX4_layBest_320 rfl ?_
      refine g_isub K dX4_layBest_322 ?_
      refine g_iload (i := 4) K hl dX4_layBest_323 rfl ?_
      refine g_imul K dX4_layBest_325 ?_
      refine g_iadd K dX4_layBest_326 ?_
      refine g_bipush K dX4_layBest_327 lb_100 ?_
      refine g_idivT K hF dX4_layBest_329 (fun t3 hF => ?_)
      refine g_goto (tgt := 335) K dX4_layBest_330 (by decide) ?_
      exact L335 k20 hk20 _ _ _ _ _ _ ls hF ha (lq_sub hl rfl)
  have L148 : ∀ (k20 : MS → Int32 → Int32 → Int32 → Option (Int32 × MS)) (hk20 : (∀ (σ : MS) (x1 : Int32) (x3 : Int32) (x4 : Int32) (ls : Array Slot), k20 σ x1 x3 x4 = some r → ag wr_layBest σ0 σ → lq ls 7 [(0, some (.ref qm)), (1, some (.int x1)), (3, some (.int x3)), (4, some (.int x4))] → ZM p l e 5 s m args below meth c D cz qm wr_layBest σ0 (some (.int r.1)) r.2 σ (F0 m 20 ls []))) (σ : MS) (x1 : Int32) (x3 : Int32) (x4 : Int32) (x5 : Int32) (ls : Array Slot), M_layBest_L148 G k20 σ x1 x3 x4 x5 = some r → ag wr_layBest σ0 σ → lq ls 7 [(0, some (.ref qm)), (1, some (.int x1)), (3, some (.int x3)), (4, some (.int x4)), (5, some (.int x5))] → ZM p l e 5 s m args below meth c D cz qm wr_layBest σ0 (some (.int r.1)) r.2 σ (F0 m 148 ls []) := by
    intro k20 hk20 σ x1 x3 x4 x5 ls hF ha hl
    unfold M_layBest_L148 at hF
    refine g_aload_n (i := 0) K hl dX4_layBest_148 rfl rfl ?_
    refine mget_75 K dX4_layBest_149 ?_
    refine g_iload_n (i := 3) K hl dX4_layBest_152 rfl rfl ?_
    refine g_iload (i := 5) K hl dX4_layBest_153 rfl ?_
    refine mst_75 K hF ha rfl dX4_layBest_155 (fun σ1 hF ha => ?_)
    refine g_iload (i := 5) K hl dX4_layBest_156 rfl ?_
    refine g_bipush K dX4_layBest_158 lb_50 ?_
    refine g_icmp_le (tgt := 177) K hF dX4_layBest_160 (by decide) (fun hF => ?_) (fun hF => ?_)
    · refine g_iload (i := 5) K hl dX4_layBest_177 rfl ?_
      refine g_bipush K dX4_layBest_179 lb_50 ?_
      refine g_icmp_ne (tgt := 217) K hF dX4_layBest_181 (by decide) (fun hF => ?_) (fun hF => ?_)
      · refine g_aload_n (i := 0) K hl dX4_layBest_217 rfl rfl ?_
        refine mget_76 K dX4_layBest_218 ?_
        refine g_iload_n (i := 3) K hl dX4_layBest_221 rfl rfl ?_
        refine g_iconst K dX4_layBest_222 lc_1 ?_
        refine mst_76 K hF ha rfl dX4_layBest_223 (fun σ2 hF ha => ?_)
        refine g_aload_n (i := 0) K hl dX4_layBest_224 rfl rfl ?_
        refine g_iload_n (i := 1) K hl dX4_layBest_225 rfl rfl ?_
        refine g_iload (i := 5) K hl dX4_layBest_226 rfl ?_
        refine g_iconst K dX4_layBest_228 lc_5 ?_
        refine g_idivT K hF dX4_layBest_229 (fun t3 hF => ?_)
        refine g_iload (i := 5) K hl dX4_layBest_230 rfl ?_
        refine g_iconst K dX4_layBest_232 lc_5 ?_
        refine g_iremT K hF dX4_layBest_233 (fun t4 hF => ?_)
        refine m_callVV K hl hF ha rfl (fun t h => w_get _ _ _ _ t h) rfl cp_get q2106 rfl rfl rfl rfl rfl dX4_layBest_234 (fun σ5 hF ha => ?_)
        refine g_aload_n (i := 0) K hl dX4_layBest_237 rfl rfl ?_
        refine g_iload_n (i := 3) K hl dX4_layBest_238 rfl rfl ?_
        refine g_iconst K dX4_layBest_239 lc_1 ?_
        refine g_iadd K dX4_layBest_240 ?_
        refine g_aload_n (i := 0) K hl dX4_layBest_241 rfl rfl ?_
        refine mget_74 K dX4_layBest_242 ?_
        refine g_iload_n (i := 3) K hl dX4_layBest_245 rfl rfl ?_
        refine mld_74 K hF dX4_layBest_246 (fun t6 hF => ?_)
        refine g_iload (i := 5) K hl dX4_layBest_247 rfl ?_
        refine g_iconst K dX4_layBest_249 lc_5 ?_
        refine g_iremT K hF dX4_layBest_250 (fun t7 hF => ?_)
        refine m_callSP K hl hF (fun t h => w_seconds _ _ t h) cp_seconds q2114 rfl rfl rfl rfl rfl dX4_layBest_251 (fun t8 hF => ?_)
        refine g_isub K dX4_layBest_254 ?_
        refine m_callVV K hl hF ha rfl (fun t h => w_goDeeper G _ _ _ t h) rfl cp_goDeeper q2177 rfl rfl rfl rfl rfl dX4_layBest_255 (fun σ9 hF ha => ?_)
        refine g_iinc (i := 3) K hl dX4_layBest_258 rfl lc_1 rfl rfl (fun ls hl => ?_)
        refine g_goto (tgt := 345) K dX4_layBest_261 (by decide) ?_
        refine g_goto (tgt := 20) K dX4_layBest_345 (by decide) ?_
        exact hk20 _ _ _ _ ls hF ha (lq_sub hl rfl)
      · refine g_aload_n (i := 0) K hl dX4_layBest_184 rfl rfl ?_
        refine mget_76 K dX4_layBest_185 ?_
        refine g_iload_n (i := 3) K hl dX4_layBest_188 rfl rfl ?_
        refine g_iconst K dX4_layBest_189 lc_3 ?_
        refine mst_76 K hF ha rfl dX4_layBest_190 (fun σ10 hF ha => ?_)
        refine g_aload_n (i := 0) K hl dX4_layBest_191 rfl rfl ?_
        refine g_iload_n (i := 1) K hl dX4_layBest_192 rfl rfl ?_
        refine m_callVV K hl hF ha rfl (fun t h => w_breathes _ _ t h) rfl cp_breathes q2133 rfl rfl rfl rfl rfl dX4_layBest_193 (fun σ11 hF ha => ?_)
        refine g_aload_n (i := 0) K hl dX4_layBest_196 rfl rfl ?_
        refine g_iload_n (i := 3) K hl dX4_layBest_197 rfl rfl ?_
        refine g_iconst K dX4_layBest_198 lc_1 ?_
        refine g_iadd K dX4_layBest_199 ?_
        refine g_aload_n (i := 0) K hl dX4_layBest_200 rfl rfl ?_
        refine mget_74 K dX4_layBest_201 ?_
        refine g_iload_n (i := 3) K hl dX4_layBest_204 rfl rfl ?_
        refine mld_74 K hF dX4_layBest_205 (fun t12 hF => ?_)
        refine g_iconst K dX4_layBest_206 lc_2 ?_
        refine g_isub K dX4_layBest_207 ?_
        refine m_callVV K hl hF ha rfl (fun t h => w_goDeeper G _ _ _ t h) rfl cp_goDeeper q2177 rfl rfl rfl rfl rfl dX4_layBest_208 (fun σ13 hF ha => ?_)
        refine g_iinc (i := 3) K hl dX4_layBest_211 rfl lc_1 rfl rfl (fun ls hl => ?_)
        refine g_goto (tgt := 345) K dX4_layBest_214 (by decide) ?_
        refine g_goto (tgt := 20) K dX4_layBest_345 (by decide) ?_
        exact hk20 _ _ _ _ ls hF ha (lq_sub hl rfl)
    · refine g_aload_n (i := 0) K hl dX4_layBest_163 rfl rfl ?_
      refine mget_78 K dX4_layBest_164 ?_
      refine g_iload_n (i := 3) K hl dX4_layBest_167 rfl rfl ?_
      refine mld_78 K hF dX4_layBest_168 (fun t14 hF => ?_)
      refine g_istore (i := 4) K hl dX4_layBest_169 rfl rfl (fun ls hl => ?_)
      refine g_iinc (i := 3) K hl dX4_layBest_171 rfl lc_m1 rfl rfl (fun ls hl => ?_)
      refine g_goto (tgt := 345) K dX4_layBest_174 (by decide) ?_
      refine g_goto (tgt := 20) K dX4_layBest_345 (by decide) ?_
      exact hk20 _ _ _ _ ls hF ha (lq_sub hl rfl)
  have B124 : ∀ (k20 : MS → Int32 → Int32 → Int32 → Option (Int32 × MS)) (hk20 : (∀ (σ : MS) (x1 : Int32) (x3 : Int32) (x4 : Int32) (ls : Array Slot), k20 σ x1 x3 x4 = some r → ag wr_layBest σ0 σ → lq ls 7 [(0, some (.ref qm)), (1, some (.int x1)), (3, some (.int x3)), (4, some (.int x4))] → ZM p l e 5 s m args below meth c D cz qm wr_layBest σ0 (some (.int r.1)) r.2 σ (F0 m 20 ls []))) (k124 : MS → Int32 → Int32 → Int32 → Int32 → Option (Int32 × MS)) (hk124 : (∀ (σ : MS) (x1 : Int32) (x3 : Int32) (x4 : Int32) (x5 : Int32) (ls : Array Slot), k124 σ x1 x3 x4 x5 = some r → ag wr_layBest σ0 σ → lq ls 7 [(0, some (.ref qm)), (1, some (.int x1)), (3, some (.int x3)), (4, some (.int x4)), (5, some (.int x5))] → ZM p l e 5 s m args below meth c D cz qm wr_layBest σ0 (some (.int r.1)) r.2 σ (F0 m 124 ls []))) (σ : MS) (x1 : Int32) (x3 : Int32) (x4 : Int32) (x5 : Int32) (ls : Array Slot), M_layBest_B124 G k20 k124 σ x1 x3 x4 x5 = some r → ag wr_layBest σ0 σ → lq ls 7 [(0, some (.ref qm)), (1, some (.int x1)), (3, some (.int x3)), (4, some (.int x4)), (5, some (.int x5))] → ZM p l e 5 s m args below meth c D cz qm wr_layBest σ0 (some (.int r.1)) r.2 σ (F0 m 124 ls []) := by
    intro k20 hk20 k124 hk124 σ x1 x3 x4 x5 ls hF ha hl
    unfold M_layBest_B124 at hF
    refine g_iload (i := 5) K hl dX4_layBest_124 rfl ?_
    refine g_bipush K dX4_layBest_126 lb_50 ?_
    refine g_icmp_gt (tgt := 148) K hF dX4_layBest_128 (by decide) (fun hF => ?_) (fun hF => ?_)
    · exact L148 k20 hk20 _ _ _ _ _ ls hF ha (lq_sub hl rfl)
    · refine g_aload_n (i := 0) K hl dX4_layBest_131 rfl rfl ?_
      refine g_iload_n (i := 1) K hl dX4_layBest_132 rfl rfl ?_
      refine g_iload_n (i := 3) K hl dX4_layBest_133 rfl rfl ?_
      refine g_iload (i := 5) K hl dX4_layBest_134 rfl ?_
      refine m_callVW K hl hF ha rfl (fun t h => w_mayGo G _ _ _ _ t h) rfl cp_mayGo q2185 rfl rfl rfl rfl rfl dX4_layBest_136 (fun t2 σ1 hF ha => ?_)
      refine g_if_ne (tgt := 148) K hF dX4_layBest_139 (by decide) (fun hF => ?_) (fun hF => ?_)
      · exact L148 k20 hk20 _ _ _ _ _ ls hF ha (lq_sub hl rfl)
      · refine g_iinc (i := 5) K hl dX4_layBest_142 rfl lc_1 rfl rfl (fun ls hl => ?_)
        refine g_goto (tgt := 124) K dX4_layBest_145 (by decide) ?_
        exact hk124 _ _ _ _ _ ls hF ha (lq_sub hl rfl)
  have L124 : ∀ (k20 : MS → Int32 → Int32 → Int32 → Option (Int32 × MS)) (hk20 : (∀ (σ : MS) (x1 : Int32) (x3 : Int32) (x4 : Int32) (ls : Array Slot), k20 σ x1 x3 x4 = some r → ag wr_layBest σ0 σ → lq ls 7 [(0, some (.ref qm)), (1, some (.int x1)), (3, some (.int x3)), (4, some (.int x4))] → ZM p l e 5 s m args below meth c D cz qm wr_layBest σ0 (some (.int r.1)) r.2 σ (F0 m 20 ls []))) (n : Nat) (σ : MS) (x1 : Int32) (x3 : Int32) (x4 : Int32) (x5 : Int32) (ls : Array Slot), M_layBest_L124 G k20 n σ x1 x3 x4 x5 = some r → ag wr_layBest σ0 σ → lq ls 7 [(0, some (.ref qm)), (1, some (.int x1)), (3, some (.int x3)), (4, some (.int x4)), (5, some (.int x5))] → ZM p l e 5 s m args below meth c D cz qm wr_layBest σ0 (some (.int r.1)) r.2 σ (F0 m 124 ls []) := by
    intro k20 hk20 n
    induction n with
    | zero => intro σ x1 x3 x4 x5 ls hF; exact absurd hF (fun h => by cases h)
    | succ n ih => intro σ x1 x3 x4 x5 ls hF ha hl; exact B124 k20 hk20 _ ih _ _ _ _ _ ls hF ha hl
  have B20 : ∀ (k20 : MS → Int32 → Int32 → Int32 → Option (Int32 × MS)) (hk20 : (∀ (σ : MS) (x1 : Int32) (x3 : Int32) (x4 : Int32) (ls : Array Slot), k20 σ x1 x3 x4 = some r → ag wr_layBest σ0 σ → lq ls 7 [(0, some (.ref qm)), (1, some (.int x1)), (3, some (.int x3)), (4, some (.int x4))] → ZM p l e 5 s m args below meth c D cz qm wr_layBest σ0 (some (.int r.1)) r.2 σ (F0 m 20 ls []))) (σ : MS) (x1 : Int32) (x3 : Int32) (x4 : Int32) (ls : Array Slot), M_layBest_B20 G k20 σ x1 x3 x4 = some r → ag wr_layBest σ0 σ → lq ls 7 [(0, some (.ref qm)), (1, some (.int x1)), (3, some (.int x3)), (4, some (.int x4))] → ZM p l e 5 s m args below meth c D cz qm wr_layBest σ0 (some (.int r.1)) r.2 σ (F0 m 20 ls []) := by
    intro k20 hk20 σ x1 x3 x4 ls hF ha hl
    unfold M_layBest_B20 at hF
    refine g_iload_n (i := 3) K hl dX4_layBest_20 rfl rfl ?_
    refine g_if_lt (tgt := 348) K hF dX4_layBest_21 (by decide) (fun hF => ?_) (fun hF => ?_)
    · exact L348  _ ls hF ha (lq_sub hl rfl)
    · refine g_aload_n (i := 0) K hl dX4_layBest_24 rfl rfl ?_
      refine mget_80 K dX4_layBest_25 ?_
      refine g_sipush K dX4_layBest_28 ls_20000 ?_
      refine g_icmp_gt (tgt := 348) K hF dX4_layBest_31 (by decide) (fun hF => ?_) (fun hF => ?_)
      · exact L348  _ ls hF ha (lq_sub hl rfl)
      · refine g_aload_n (i := 0) K hl dX4_layBest_34 rfl rfl ?_
        refine g_iload_n (i := 3) K hl dX4_layBest_35 rfl rfl ?_
        refine m_callVV K hl hF ha rfl (fun t h => w_loadRow G _ _ t h) rfl cp_loadRow q2181 rfl rfl rfl rfl rfl dX4_layBest_36 (fun σ1 hF ha => ?_)
        refine g_aload_n (i := 0) K hl dX4_layBest_39 rfl rfl ?_
        refine mget_75 K dX4_layBest_40 ?_
        refine g_iload_n (i := 3) K hl dX4_layBest_43 rfl rfl ?_
        refine mld_75 K hF dX4_layBest_44 (fun t2 hF => ?_)
        refine g_istore (i := 5) K hl dX4_layBest_45 rfl rfl (fun ls hl => ?_)
        refine g_aload_n (i := 0) K hl dX4_layBest_47 rfl rfl ?_
        refine mget_76 K dX4_layBest_48 ?_
        refine g_iload_n (i := 3) K hl dX4_layBest_51 rfl rfl ?_
        refine mld_76 K hF dX4_layBest_52 (fun t3 hF => ?_)
        refine g_iconst K dX4_layBest_53 lc_1 ?_
        refine g_icmp_ne (tgt := 112) K hF dX4_layBest_54 (by decide) (fun hF => ?_) (fun hF => ?_)
        · refine g_aload_n (i := 0) K hl dX4_layBest_112 rfl rfl ?_
          refine mget_76 K dX4_layBest_113 ?_
          refine g_iload_n (i := 3) K hl dX4_layBest_116 rfl rfl ?_
          refine mld_76 K hF dX4_layBest_117 (fun t4 hF => ?_)
          refine g_if_ne (tgt := 264) K hF dX4_layBest_118 (by decide) (fun hF => ?_) (fun hF => ?_)
          · refine g_aload_n (i := 0) K hl dX4_layBest_264 rfl rfl ?_
            refine mget_76 K dX4_layBest_265 ?_
            refine g_iload_n (i := 3) K hl dX4_layBest_268 rfl rfl ?_
            refine mld_76 K hF dX4_layBest_269 (fun t5 hF => ?_)
            refine g_iconst K dX4_layBest_270 lc_2 ?_
            refine g_icmp_ne (tgt := 290) K hF dX4_layBest_271 (by decide) (fun hF => ?_) (fun hF => ?_)
            · refine g_iconst K dX4_layBest_290 lc_0 ?_
              exact L291 k20 hk20 _ _ _ _ _ ls hF ha (lq_sub hl rfl)
            · refine g_aload_n (i := 0) K hl dX4_layBest_274 rfl rfl ?_
              refine g_iload_n (i := 1) K hl dX4_layBest_275 rfl rfl ?_
              refine g_iload (i := 5) K hl dX4_layBest_276 rfl ?_
              refine g_iconst K dX4_layBest_278 lc_5 ?_
              refine g_idivT K hF dX4_layBest_279 (fun t6 hF => ?_)
              refine g_iload (i := 5) K hl dX4_layBest_280 rfl ?_
              refine g_iconst K dX4_layBest_282 lc_5 ?_
              refine g_iremT K hF dX4_layBest_283 (fun t7 hF => ?_)
              refine m_callVW K hl hF ha rfl (fun t h => w_oddsOf G _ _ _ _ t h) rfl cp_oddsOf q2065 rfl rfl rfl rfl rfl dX4_layBest_284 (fun t9 σ8 hF ha => ?_)
              refine g_goto (tgt := 291) K dX4_layBest_287 (by decide) ?_
              exact L291 k20 hk20 _ _ _ _ _ ls hF ha (lq_sub hl rfl)
          · refine g_iinc (i := 5) K hl dX4_layBest_121 rfl lc_1 rfl rfl (fun ls hl => ?_)
            exact L124 k20 hk20 G _ _ _ _ _ ls hF ha (lq_sub hl rfl)
        · refine g_aload_n (i := 0) K hl dX4_layBest_57 rfl rfl ?_
          refine mget_77 K dX4_layBest_58 ?_
          refine g_iload_n (i := 3) K hl dX4_layBest_61 rfl rfl ?_
          refine g_iload (i := 4) K hl dX4_layBest_62 rfl ?_
          refine mst_77 K hF ha rfl dX4_layBest_64 (fun σ10 hF ha => ?_)
          refine g_aload_n (i := 0) K hl dX4_layBest_65 rfl rfl ?_
          refine mget_76 K dX4_layBest_66 ?_
          refine g_iload_n (i := 3) K hl dX4_layBest_69 rfl rfl ?_
          refine g_iconst K dX4_layBest_70 lc_2 ?_
          refine mst_76 K hF ha rfl dX4_layBest_71 (fun σ11 hF ha => ?_)
          refine g_aload_n (i := 0) K hl dX4_layBest_72 rfl rfl ?_
          refine g_iload_n (i := 1) K hl dX4_layBest_73 rfl rfl ?_
          refine g_iload (i := 5) K hl dX4_layBest_74 rfl ?_
          refine g_iconst K dX4_layBest_76 lc_5 ?_
          refine g_idivT K hF dX4_layBest_77 (fun t12 hF => ?_)
          refine g_iload (i := 5) K hl dX4_layBest_78 rfl ?_
          refine g_iconst K dX4_layBest_80 lc_5 ?_
          refine g_iremT K hF dX4_layBest_81 (fun t13 hF => ?_)
          refine m_callVV K hl hF ha rfl (fun t h => w_miss G _ _ _ _ t h) rfl cp_miss q2117 rfl rfl rfl rfl rfl dX4_layBest_82 (fun σ14 hF ha => ?_)
          refine g_aload_n (i := 0) K hl dX4_layBest_85 rfl rfl ?_
          refine g_iload_n (i := 3) K hl dX4_layBest_86 rfl rfl ?_
          refine g_iconst K dX4_layBest_87 lc_1 ?_
          refine g_iadd K dX4_layBest_88 ?_
          refine g_aload_n (i := 0) K hl dX4_layBest_89 rfl rfl ?_
          refine mget_74 K dX4_layBest_90 ?_
          refine g_iload_n (i := 3) K hl dX4_layBest_93 rfl rfl ?_
          refine mld_74 K hF dX4_layBest_94 (fun t15 hF => ?_)
          refine g_iload (i := 5) K hl dX4_layBest_95 rfl ?_
          refine g_iconst K dX4_layBest_97 lc_5 ?_
          refine g_iremT K hF dX4_layBest_98 (fun t16 hF => ?_)
          refine m_callSP K hl hF (fun t h => w_seconds _ _ t h) cp_seconds q2114 rfl rfl rfl rfl rfl dX4_layBest_99 (fun t17 hF => ?_)
          refine g_isub K dX4_layBest_102 ?_
          refine m_callVV K hl hF ha rfl (fun t h => w_goDeeper G _ _ _ t h) rfl cp_goDeeper q2177 rfl rfl rfl rfl rfl dX4_layBest_103 (fun σ18 hF ha => ?_)
          refine g_iinc (i := 3) K hl dX4_layBest_106 rfl lc_1 rfl rfl (fun ls hl => ?_)
          refine g_goto (tgt := 345) K dX4_layBest_109 (by decide) ?_
          refine g_goto (tgt := 20) K dX4_layBest_345 (by decide) ?_
          exact hk20 _ _ _ _ ls hF ha (lq_sub hl rfl)
  have L20 : ∀  (n : Nat) (σ : MS) (x1 : Int32) (x3 : Int32) (x4 : Int32) (ls : Array Slot), M_layBest_L20 G  n σ x1 x3 x4 = some r → ag wr_layBest σ0 σ → lq ls 7 [(0, some (.ref qm)), (1, some (.int x1)), (3, some (.int x3)), (4, some (.int x4))] → ZM p l e 5 s m args below meth c D cz qm wr_layBest σ0 (some (.int r.1)) r.2 σ (F0 m 20 ls []) := by
    intro  n
    induction n with
    | zero => intro σ x1 x3 x4 ls hF; exact absurd hF (fun h => by cases h)
    | succ n ih => intro σ x1 x3 x4 ls hF ha hl; exact B20  _ ih _ _ _ _ ls hF ha hl
  have ha : ag wr_layBest σ0 σ0 := ag.rf
  unfold M_layBest at hF
  refine g_aload_n (i := 0) K hl dX4_layBest_0 rfl rfl ?_
  refine g_iconst K dX4_layBest_1 lc_0 ?_
  refine mput_80 K hF ha rfl dX4_layBest_2 (fun σ1 hF ha => ?_)
  refine g_aload_n (i := 0) K hl dX4_layBest_5 rfl rfl ?_
  refine m_callVV K hl hF ha rfl (fun t h => w_load G _  t h) rfl cp_load q2027 rfl rfl rfl rfl rfl dX4_layBest_6 (fun σ2 hF ha => ?_)
  refine g_aload_n (i := 0) K hl dX4_layBest_9 rfl rfl ?_
  refine g_iconst K dX4_layBest_10 lc_0 ?_
  refine g_iload_n (i := 2) K hl dX4_layBest_11 rfl rfl ?_
  refine m_callVV K hl hF ha rfl (fun t h => w_goDeeper G _ _ _ t h) rfl cp_goDeeper q2177 rfl rfl rfl rfl rfl dX4_layBest_12 (fun σ3 hF ha => ?_)
  refine g_iconst K dX4_layBest_15 lc_0 ?_
  refine g_istore_n (i := 3) K hl dX4_layBest_16 rfl rfl rfl (fun ls hl => ?_)
  refine g_iconst K dX4_layBest_17 lc_0 ?_
  refine g_istore (i := 4) K hl dX4_layBest_18 rfl rfl (fun ls hl => ?_)
  exact L20  G _ _ _ _ ls hF ha (lq_sub hl rfl)

theorem cp_best : cpV yX4_best cX4_best 4 (some .int) 3 := ⟨q2170, q2171, q152, q2172, by decide +kernel⟩
set_option maxHeartbeats 4000000 in
set_option maxRecDepth 100000 in
theorem w_best {l : Launch} {D : va_G} {cz : Nat → ClassId} {qm : Nat} (G : Nat) (σ0 : MS) (a0 : Int32) (a1 : Int32) (a2 : Int32) (r : (Int32 × MS)) (hF : M_best G σ0 a0 a1 a2 = some r) : mMet l D cz qm yX4_best cX4_best 4 (some .int) 6 wr_best [.ref qm, .int a0, .int a1, .int a2] σ0 (some (.int r.1)) r.2 := by
  refine m_of (by decide) rfl ?_
  intro p e s m args below meth c ls K hl
  have L102 : ∀  (σ : MS) (s0 : Int32) (ls : Array Slot), M_best_L102 G  σ s0 = some r → ag wr_best σ0 σ → lq ls 4 [(0, some (.ref qm))] → ZM p l e 6 s m args below meth c D cz qm wr_best σ0 (some (.int r.1)) r.2 σ (F0 m 102 ls [.int s0]) := by
    intro  σ s0 ls hF ha hl
    unfold M_best_L102 at hF
    refine m_callSP K hl hF (fun t h => w_truth _ _ t h) cp_truth q2077 rfl rfl rfl rfl rfl dX4_best_102 (fun t1 hF => ?_)
    exact m_iretW K hF ha dX4_best_105
  have ha : ag wr_best σ0 σ0 := ag.rf
  unfold M_best at hF
  refine g_aload_n (i := 0) K hl dX4_best_0 rfl rfl ?_
  refine g_iload_n (i := 1) K hl dX4_best_1 rfl rfl ?_
  refine m_callVP K hl hF (fun t h => w_isBobber _ _ t h) rfl cp_isBobber q2015 rfl rfl rfl rfl rfl dX4_best_2 (fun t1 hF => ?_)
  refine g_if_eq (tgt := 27) K hF dX4_best_5 (by decide) (fun hF => ?_) (fun hF => ?_)
  · refine g_iconst K dX4_best_27 lc_m1 ?_
    exact m_iretW K hF ha dX4_best_28
  · refine g_iload_n (i := 2) K hl dX4_best_8 rfl rfl ?_
    refine g_iconst K dX4_best_9 lc_0 ?_
    refine g_bipush K dX4_best_10 lb_8 ?_
    refine m_callSP K hl hF (fun t h => w_isIn _ _ _ _ t h) cp_isIn q2008 rfl rfl rfl rfl rfl dX4_best_12 (fun t2 hF => ?_)
    refine g_if_eq (tgt := 27) K hF dX4_best_15 (by decide) (fun hF => ?_) (fun hF => ?_)
    · refine g_iconst K dX4_best_27 lc_m1 ?_
      exact m_iretW K hF ha dX4_best_28
    · refine g_iload_n (i := 3) K hl dX4_best_18 rfl rfl ?_
      refine g_iconst K dX4_best_19 lc_0 ?_
      refine g_iconst K dX4_best_20 lc_2 ?_
      refine m_callSP K hl hF (fun t h => w_isIn _ _ _ _ t h) cp_isIn q2008 rfl rfl rfl rfl rfl dX4_best_21 (fun t3 hF => ?_)
      refine g_if_ne (tgt := 29) K hF dX4_best_24 (by decide) (fun hF => ?_) (fun hF => ?_)
      · refine g_aload_n (i := 0) K hl dX4_best_29 rfl rfl ?_
        refine g_iload_n (i := 1) K hl dX4_best_30 rfl rfl ?_
        refine g_iload_n (i := 2) K hl dX4_best_31 rfl rfl ?_
        refine m_callVW K hl hF ha rfl (fun t h => w_layBest G _ _ _ t h) rfl cp_layBest q2173 rfl rfl rfl rfl rfl dX4_best_32 (fun t5 σ4 hF ha => ?_)
        refine g_if_ne (tgt := 41) K hF dX4_best_35 (by decide) (fun hF => ?_) (fun hF => ?_)
        · refine g_iload_n (i := 3) K hl dX4_best_41 rfl rfl ?_
          refine g_if_ne (tgt := 54) K hF dX4_best_42 (by decide) (fun hF => ?_) (fun hF => ?_)
          · refine g_iload_n (i := 3) K hl dX4_best_54 rfl rfl ?_
            refine g_iconst K dX4_best_55 lc_1 ?_
            refine g_icmp_ne (tgt := 86) K hF dX4_best_56 (by decide) (fun hF => ?_) (fun hF => ?_)
            · refine g_aload_n (i := 0) K hl dX4_best_86 rfl rfl ?_
              refine mget_79 K dX4_best_87 ?_
              refine g_iconst K dX4_best_90 lc_0 ?_
              refine mld_79 K hF dX4_best_91 (fun t6 hF => ?_)
              refine g_bipush K dX4_best_92 lb_50 ?_
              refine g_icmp_ne (tgt := 101) K hF dX4_best_94 (by decide) (fun hF => ?_) (fun hF => ?_)
              · refine g_iconst K dX4_best_101 lc_0 ?_
                exact L102  _ _ ls hF ha (lq_sub hl rfl)
              · refine g_iconst K dX4_best_97 lc_1 ?_
                refine g_goto (tgt := 102) K dX4_best_98 (by decide) ?_
                exact L102  _ _ ls hF ha (lq_sub hl rfl)
            · refine g_aload_n (i := 0) K hl dX4_best_59 rfl rfl ?_
              refine mget_79 K dX4_best_60 ?_
              refine g_iconst K dX4_best_63 lc_0 ?_
              refine mld_79 K hF dX4_best_64 (fun t7 hF => ?_)
              refine g_bipush K dX4_best_65 lb_50 ?_
              refine g_icmp_ne (tgt := 74) K hF dX4_best_67 (by decide) (fun hF => ?_) (fun hF => ?_)
              · refine g_aload_n (i := 0) K hl dX4_best_74 rfl rfl ?_
                refine mget_79 K dX4_best_75 ?_
                refine g_iconst K dX4_best_78 lc_0 ?_
                refine mld_79 K hF dX4_best_79 (fun t8 hF => ?_)
                refine m_callSP K hl hF (fun t h => w_told10 _ _ t h) cp_told10 q2091 rfl rfl rfl rfl rfl dX4_best_80 (fun t9 hF => ?_)
                refine g_goto (tgt := 105) K dX4_best_83 (by decide) ?_
                exact m_iretW K hF ha dX4_best_105
              · refine g_iconst K dX4_best_70 lc_m1 ?_
                refine g_goto (tgt := 105) K dX4_best_71 (by decide) ?_
                exact m_iretW K hF ha dX4_best_105
          · refine g_aload_n (i := 0) K hl dX4_best_45 rfl rfl ?_
            refine mget_78 K dX4_best_46 ?_
            refine g_iconst K dX4_best_49 lc_0 ?_
            refine mld_78 K hF dX4_best_50 (fun t10 hF => ?_)
            refine g_goto (tgt := 105) K dX4_best_51 (by decide) ?_
            exact m_iretW K hF ha dX4_best_105
        · refine g_bipush K dX4_best_38 lb_m2 ?_
          exact m_iretW K hF ha dX4_best_40
      · refine g_iconst K dX4_best_27 lc_m1 ?_
        exact m_iretW K hF ha dX4_best_28

theorem cp_record : cpV yX4_record cX4_record 4 (some .int) 3 := ⟨q2195, q2196, q152, q2197, by decide +kernel⟩
set_option maxHeartbeats 4000000 in
set_option maxRecDepth 100000 in
theorem w_record {l : Launch} {D : va_G} {cz : Nat → ClassId} {qm : Nat} (σ0 : MS) (a0 : Int32) (a1 : Int32) (a2 : Int32) (r : Int32) (hF : M_record σ0 a0 a1 a2 = some r) : mMet l D cz qm yX4_record cX4_record 4 (some .int) 2 wr_record [.ref qm, .int a0, .int a1, .int a2] σ0 (some (.int r)) σ0 := by
  refine m_of (by decide) rfl ?_
  intro p e s m args below meth c ls K hl
  unfold M_record at hF
  refine g_aload_n (i := 0) K hl dX4_record_0 rfl rfl ?_
  refine g_iload_n (i := 1) K hl dX4_record_1 rfl rfl ?_
  refine m_callVP K hl hF (fun t h => w_isBobber _ _ t h) rfl cp_isBobber q2015 rfl rfl rfl rfl rfl dX4_record_2 (fun t1 hF => ?_)
  refine g_if_eq (tgt := 47) K hF dX4_record_5 (by decide) (fun hF => ?_) (fun hF => ?_)
  · refine g_iconst K dX4_record_47 lc_m1 ?_
    exact m_iretP K hF ag.rf dX4_record_48
  · refine g_iload_n (i := 2) K hl dX4_record_8 rfl rfl ?_
    refine g_iconst K dX4_record_9 lc_0 ?_
    refine g_iconst K dX4_record_10 lc_4 ?_
    refine m_callSP K hl hF (fun t h => w_isIn _ _ _ _ t h) cp_isIn q2008 rfl rfl rfl rfl rfl dX4_record_11 (fun t2 hF => ?_)
    refine g_if_eq (tgt := 47) K hF dX4_record_14 (by decide) (fun hF => ?_) (fun hF => ?_)
    · refine g_iconst K dX4_record_47 lc_m1 ?_
      exact m_iretP K hF ag.rf dX4_record_48
    · refine g_iload_n (i := 3) K hl dX4_record_17 rfl rfl ?_
      refine g_iconst K dX4_record_18 lc_0 ?_
      refine g_iconst K dX4_record_19 lc_2 ?_
      refine m_callSP K hl hF (fun t h => w_isIn _ _ _ _ t h) cp_isIn q2008 rfl rfl rfl rfl rfl dX4_record_20 (fun t3 hF => ?_)
      refine g_if_eq (tgt := 47) K hF dX4_record_23 (by decide) (fun hF => ?_) (fun hF => ?_)
      · refine g_iconst K dX4_record_47 lc_m1 ?_
        exact m_iretP K hF ag.rf dX4_record_48
      · refine g_aload_n (i := 0) K hl dX4_record_26 rfl rfl ?_
        refine mget_67 K dX4_record_27 ?_
        refine g_bipush K dX4_record_30 lb_63 ?_
        refine g_bipush K dX4_record_32 lb_15 ?_
        refine g_iload_n (i := 1) K hl dX4_record_34 rfl rfl ?_
        refine g_imul K dX4_record_35 ?_
        refine g_iadd K dX4_record_36 ?_
        refine g_iconst K dX4_record_37 lc_3 ?_
        refine g_iload_n (i := 2) K hl dX4_record_38 rfl rfl ?_
        refine g_imul K dX4_record_39 ?_
        refine g_iadd K dX4_record_40 ?_
        refine g_iload_n (i := 3) K hl dX4_record_41 rfl rfl ?_
        refine g_iadd K dX4_record_42 ?_
        refine mld_67 K hF dX4_record_43 (fun t4 hF => ?_)
        refine g_goto (tgt := 48) K dX4_record_44 (by decide) ?_
        exact m_iretP K hF ag.rf dX4_record_48

theorem cp_easier : cpV yX4_easier cX4_easier 5 (some .int) 2 := ⟨q2199, q2200, q152, q2201, by decide +kernel⟩
set_option maxHeartbeats 4000000 in
set_option maxRecDepth 100000 in
theorem w_easier {l : Launch} {D : va_G} {cz : Nat → ClassId} {qm : Nat} (G : Nat) (σ0 : MS) (a0 : Int32) (a1 : Int32) (r : (Int32 × MS)) (hF : M_easier G σ0 a0 a1 = some r) : mMet l D cz qm yX4_easier cX4_easier 5 (some .int) 5 wr_easier [.ref qm, .int a0, .int a1] σ0 (some (.int r.1)) r.2 := by
  refine m_of (by decide) rfl ?_
  intro p e s m args below meth c ls K hl
  have B17 : ∀ (k17 : MS → Int32 → Int32 → Int32 → Int32 → Option (Int32 × MS)) (hk17 : (∀ (σ : MS) (x1 : Int32) (x2 : Int32) (x3 : Int32) (x4 : Int32) (ls : Array Slot), k17 σ x1 x2 x3 x4 = some r → ag wr_easier σ0 σ → lq ls 5 [(0, some (.ref qm)), (1, some (.int x1)), (2, some (.int x2)), (3, some (.int x3)), (4, some (.int x4))] → ZM p l e 5 s m args below meth c D cz qm wr_easier σ0 (some (.int r.1)) r.2 σ (F0 m 17 ls []))) (σ : MS) (x1 : Int32) (x2 : Int32) (x3 : Int32) (x4 : Int32) (ls : Array Slot), M_easier_B17 G k17 σ x1 x2 x3 x4 = some r → ag wr_easier σ0 σ → lq ls 5 [(0, some (.ref qm)), (1, some (.int x1)), (2, some (.int x2)), (3, some (.int x3)), (4, some (.int x4))] → ZM p l e 5 s m args below meth c D cz qm wr_easier σ0 (some (.int r.1)) r.2 σ (F0 m 17 ls []) := by
    intro k17 hk17 σ x1 x2 x3 x4 ls hF ha hl
    unfold M_easier_B17 at hF
    refine g_iload (i := 4) K hl dX4_easier_17 rfl ?_
    refine g_aload_n (i := 0) K hl dX4_easier_19 rfl rfl ?_
    refine mget_60 K dX4_easier_20 ?_
    refine g_icmp_ge (tgt := 69) K hF dX4_easier_23 (by decide) (fun hF => ?_) (fun hF => ?_)
    · refine g_iload_n (i := 3) K hl dX4_easier_69 rfl rfl ?_
      exact m_iretW K hF ha dX4_easier_70
    · refine g_iload_n (i := 3) K hl dX4_easier_26 rfl rfl ?_
      refine g_aload_n (i := 0) K hl dX4_easier_27 rfl rfl ?_
      refine g_iload_n (i := 1) K hl dX4_easier_28 rfl rfl ?_
      refine g_iload (i := 4) K hl dX4_easier_29 rfl ?_
      refine g_iconst K dX4_easier_31 lc_0 ?_
      refine m_callVW K hl hF ha rfl (fun t h => w_canTry G _ _ _ _ t h) rfl cp_canTry q2031 rfl rfl rfl rfl rfl dX4_easier_32 (fun t2 σ1 hF ha => ?_)
      refine g_if_eq (tgt := 60) K hF dX4_easier_35 (by decide) (fun hF => ?_) (fun hF => ?_)
      · refine g_iconst K dX4_easier_60 lc_0 ?_
        refine g_iadd K dX4_easier_61 ?_
        refine g_istore_n (i := 3) K hl dX4_easier_62 rfl rfl rfl (fun ls hl => ?_)
        refine g_iinc (i := 4) K hl dX4_easier_63 rfl lc_1 rfl rfl (fun ls hl => ?_)
        refine g_goto (tgt := 17) K dX4_easier_66 (by decide) ?_
        exact hk17 _ _ _ _ _ ls hF ha (lq_sub hl rfl)
      · refine g_aload_n (i := 0) K hl dX4_easier_38 rfl rfl ?_
        refine g_iload_n (i := 1) K hl dX4_easier_39 rfl rfl ?_
        refine g_iload (i := 4) K hl dX4_easier_40 rfl ?_
        refine g_iconst K dX4_easier_42 lc_0 ?_
        refine m_callVW K hl hF ha rfl (fun t h => w_oddsOf G _ _ _ _ t h) rfl cp_oddsOf q2065 rfl rfl rfl rfl rfl dX4_easier_43 (fun t4 σ3 hF ha => ?_)
        refine g_aload_n (i := 0) K hl dX4_easier_46 rfl rfl ?_
        refine g_iload_n (i := 1) K hl dX4_easier_47 rfl rfl ?_
        refine g_iload_n (i := 2) K hl dX4_easier_48 rfl rfl ?_
        refine g_iconst K dX4_easier_49 lc_0 ?_
        refine m_callVW K hl hF ha rfl (fun t h => w_oddsOf G _ _ _ _ t h) rfl cp_oddsOf q2065 rfl rfl rfl rfl rfl dX4_easier_50 (fun t6 σ5 hF ha => ?_)
        refine g_icmp_le (tgt := 60) K hF dX4_easier_53 (by decide) (fun hF => ?_) (fun hF => ?_)
        · refine g_iconst K dX4_easier_60 lc_0 ?_
          refine g_iadd K dX4_easier_61 ?_
          refine g_istore_n (i := 3) K hl dX4_easier_62 rfl rfl rfl (fun ls hl => ?_)
          refine g_iinc (i := 4) K hl dX4_easier_63 rfl lc_1 rfl rfl (fun ls hl => ?_)
          refine g_goto (tgt := 17) K dX4_easier_66 (by decide) ?_
          exact hk17 _ _ _ _ _ ls hF ha (lq_sub hl rfl)
        · refine g_iconst K dX4_easier_56 lc_1 ?_
          refine g_goto (tgt := 61) K dX4_easier_57 (by decide) ?_
          refine g_iadd K dX4_easier_61 ?_
          refine g_istore_n (i := 3) K hl dX4_easier_62 rfl rfl rfl (fun ls hl => ?_)
          refine g_iinc (i := 4) K hl dX4_easier_63 rfl lc_1 rfl rfl (fun ls hl => ?_)
          refine g_goto (tgt := 17) K dX4_easier_66 (by decide) ?_
          exact hk17 _ _ _ _ _ ls hF ha (lq_sub hl rfl)
  have L17 : ∀  (n : Nat) (σ : MS) (x1 : Int32) (x2 : Int32) (x3 : Int32) (x4 : Int32) (ls : Array Slot), M_easier_L17 G  n σ x1 x2 x3 x4 = some r → ag wr_easier σ0 σ → lq ls 5 [(0, some (.ref qm)), (1, some (.int x1)), (2, some (.int x2)), (3, some (.int x3)), (4, some (.int x4))] → ZM p l e 5 s m args below meth c D cz qm wr_easier σ0 (some (.int r.1)) r.2 σ (F0 m 17 ls []) := by
    intro  n
    induction n with
    | zero => intro σ x1 x2 x3 x4 ls hF; exact absurd hF (fun h => by cases h)
    | succ n ih => intro σ x1 x2 x3 x4 ls hF ha hl; exact B17  _ ih _ _ _ _ _ ls hF ha hl
  have ha : ag wr_easier σ0 σ0 := ag.rf
  unfold M_easier at hF
  refine g_aload_n (i := 0) K hl dX4_easier_0 rfl rfl ?_
  refine g_iload_n (i := 1) K hl dX4_easier_1 rfl rfl ?_
  refine g_iload_n (i := 2) K hl dX4_easier_2 rfl rfl ?_
  refine g_iconst K dX4_easier_3 lc_0 ?_
  refine m_callVW K hl hF ha rfl (fun t h => w_mayTry G _ _ _ _ t h) rfl cp_mayTry q2023 rfl rfl rfl rfl rfl dX4_easier_4 (fun t2 σ1 hF ha => ?_)
  refine g_if_ne (tgt := 12) K hF dX4_easier_7 (by decide) (fun hF => ?_) (fun hF => ?_)
  · refine g_iconst K dX4_easier_12 lc_0 ?_
    refine g_istore_n (i := 3) K hl dX4_easier_13 rfl rfl rfl (fun ls hl => ?_)
    refine g_iconst K dX4_easier_14 lc_0 ?_
    refine g_istore (i := 4) K hl dX4_easier_15 rfl rfl (fun ls hl => ?_)
    exact L17  G _ _ _ _ _ ls hF ha (lq_sub hl rfl)
  · refine g_iconst K dX4_easier_10 lc_m1 ?_
    exact m_iretW K hF ha dX4_easier_11

theorem cp_getsAlone : cpV yX4_getsAlone cX4_getsAlone 5 (some .int) 2 := ⟨q2208, qs130, q152, q2209, by decide +kernel⟩
set_option maxHeartbeats 4000000 in
set_option maxRecDepth 100000 in
theorem w_getsAlone {l : Launch} {D : va_G} {cz : Nat → ClassId} {qm : Nat} (G : Nat) (σ0 : MS) (a0 : Int32) (a1 : Int32) (r : (Int32 × MS)) (hF : M_getsAlone G σ0 a0 a1 = some r) : mMet l D cz qm yX4_getsAlone cX4_getsAlone 5 (some .int) 7 wr_getsAlone [.ref qm, .int a0, .int a1] σ0 (some (.int r.1)) r.2 := by
  refine m_of (by decide) rfl ?_
  intro p e s m args below meth c ls K hl
  have B9 : ∀ (k9 : MS → Int32 → Int32 → Int32 → Int32 → Option (Int32 × MS)) (hk9 : (∀ (σ : MS) (x1 : Int32) (x2 : Int32) (x3 : Int32) (x4 : Int32) (ls : Array Slot), k9 σ x1 x2 x3 x4 = some r → ag wr_getsAlone σ0 σ → lq ls 5 [(0, some (.ref qm)), (1, some (.int x1)), (2, some (.int x2)), (3, some (.int x3)), (4, some (.int x4))] → ZM p l e 7 s m args below meth c D cz qm wr_getsAlone σ0 (some (.int r.1)) r.2 σ (F0 m 9 ls []))) (σ : MS) (x1 : Int32) (x2 : Int32) (x3 : Int32) (x4 : Int32) (ls : Array Slot), M_getsAlone_B9 G k9 σ x1 x2 x3 x4 = some r → ag wr_getsAlone σ0 σ → lq ls 5 [(0, some (.ref qm)), (1, some (.int x1)), (2, some (.int x2)), (3, some (.int x3)), (4, some (.int x4))] → ZM p l e 7 s m args below meth c D cz qm wr_getsAlone σ0 (some (.int r.1)) r.2 σ (F0 m 9 ls []) := by
    intro k9 hk9 σ x1 x2 x3 x4 ls hF ha hl
    unfold M_getsAlone_B9 at hF
    refine g_iload (i := 4) K hl dX4_getsAlone_9 rfl ?_
    refine g_iload_n (i := 2) K hl dX4_getsAlone_11 rfl rfl ?_
    refine g_icmp_ge (tgt := 43) K hF dX4_getsAlone_12 (by decide) (fun hF => ?_) (fun hF => ?_)
    · refine g_iload_n (i := 3) K hl dX4_getsAlone_43 rfl rfl ?_
      exact m_iretW K hF ha dX4_getsAlone_44
    · refine g_iload_n (i := 3) K hl dX4_getsAlone_15 rfl rfl ?_
      refine g_aload_n (i := 0) K hl dX4_getsAlone_16 rfl rfl ?_
      refine g_iload_n (i := 1) K hl dX4_getsAlone_17 rfl rfl ?_
      refine g_aload_n (i := 0) K hl dX4_getsAlone_18 rfl rfl ?_
      refine mget_47 K dX4_getsAlone_19 ?_
      refine g_iload_n (i := 1) K hl dX4_getsAlone_22 rfl rfl ?_
      refine mld_47 K hF dX4_getsAlone_23 (fun t1 hF => ?_)
      refine m_callVW K hl hF ha rfl (fun t h => w_actsBy G _ _ _ t h) rfl cp_actsBy q2153 rfl rfl rfl rfl rfl dX4_getsAlone_24 (fun t3 σ2 hF ha => ?_)
      refine g_if_eq (tgt := 34) K hF dX4_getsAlone_27 (by decide) (fun hF => ?_) (fun hF => ?_)
      · refine g_iconst K dX4_getsAlone_34 lc_0 ?_
        refine g_iadd K dX4_getsAlone_35 ?_
        refine g_istore_n (i := 3) K hl dX4_getsAlone_36 rfl rfl rfl (fun ls hl => ?_)
        refine g_iinc (i := 4) K hl dX4_getsAlone_37 rfl lc_1 rfl rfl (fun ls hl => ?_)
        refine g_goto (tgt := 9) K dX4_getsAlone_40 (by decide) ?_
        exact hk9 _ _ _ _ _ ls hF ha (lq_sub hl rfl)
      · refine g_iconst K dX4_getsAlone_30 lc_1 ?_
        refine g_goto (tgt := 35) K dX4_getsAlone_31 (by decide) ?_
        refine g_iadd K dX4_getsAlone_35 ?_
        refine g_istore_n (i := 3) K hl dX4_getsAlone_36 rfl rfl rfl (fun ls hl => ?_)
        refine g_iinc (i := 4) K hl dX4_getsAlone_37 rfl lc_1 rfl rfl (fun ls hl => ?_)
        refine g_goto (tgt := 9) K dX4_getsAlone_40 (by decide) ?_
        exact hk9 _ _ _ _ _ ls hF ha (lq_sub hl rfl)
  have L9 : ∀  (n : Nat) (σ : MS) (x1 : Int32) (x2 : Int32) (x3 : Int32) (x4 : Int32) (ls : Array Slot), M_getsAlone_L9 G  n σ x1 x2 x3 x4 = some r → ag wr_getsAlone σ0 σ → lq ls 5 [(0, some (.ref qm)), (1, some (.int x1)), (2, some (.int x2)), (3, some (.int x3)), (4, some (.int x4))] → ZM p l e 7 s m args below meth c D cz qm wr_getsAlone σ0 (some (.int r.1)) r.2 σ (F0 m 9 ls []) := by
    intro  n
    induction n with
    | zero => intro σ x1 x2 x3 x4 ls hF; exact absurd hF (fun h => by cases h)
    | succ n ih => intro σ x1 x2 x3 x4 ls hF ha hl; exact B9  _ ih _ _ _ _ _ ls hF ha hl
  have ha : ag wr_getsAlone σ0 σ0 := ag.rf
  unfold M_getsAlone at hF
  refine g_aload_n (i := 0) K hl dX4_getsAlone_0 rfl rfl ?_
  refine m_callVV K hl hF ha rfl (fun t h => w_load G _  t h) rfl cp_load q2027 rfl rfl rfl rfl rfl dX4_getsAlone_1 (fun σ1 hF ha => ?_)
  refine g_iconst K dX4_getsAlone_4 lc_0 ?_
  refine g_istore_n (i := 3) K hl dX4_getsAlone_5 rfl rfl rfl (fun ls hl => ?_)
  refine g_iconst K dX4_getsAlone_6 lc_0 ?_
  refine g_istore (i := 4) K hl dX4_getsAlone_7 rfl rfl (fun ls hl => ?_)
  exact L9  G _ _ _ _ _ ls hF ha (lq_sub hl rfl)

theorem cp_seat : cpV yX4_seat cX4_seat 12 (some .int) 3 := ⟨q2203, q2204, q152, q2205, by decide +kernel⟩
set_option maxHeartbeats 4000000 in
set_option maxRecDepth 100000 in
theorem w_seat {l : Launch} {D : va_G} {cz : Nat → ClassId} {qm : Nat} (G : Nat) (σ0 : MS) (a0 : Int32) (a1 : Int32) (a2 : Int32) (r : (Int32 × MS)) (hF : M_seat G σ0 a0 a1 a2 = some r) : mMet l D cz qm yX4_seat cX4_seat 12 (some .int) 8 wr_seat [.ref qm, .int a0, .int a1, .int a2] σ0 (some (.int r.1)) r.2 := by
  refine m_of (by decide) rfl ?_
  intro p e s m args below meth c ls K hl
  have L121 : ∀ (k54 : MS → Int32 → Int32 → Int32 → Int32 → Int32 → Int32 → Int32 → Int32 → Option (Int32 × MS)) (hk54 : (∀ (σ : MS) (x1 : Int32) (x2 : Int32) (x3 : Int32) (x4 : Int32) (x5 : Int32) (x6 : Int32) (x7 : Int32) (x8 : Int32) (ls : Array Slot), k54 σ x1 x2 x3 x4 x5 x6 x7 x8 = some r → ag wr_seat σ0 σ → lq ls 12 [(0, some (.ref qm)), (1, some (.int x1)), (2, some (.int x2)), (3, some (.int x3)), (4, some (.int x4)), (5, some (.int x5)), (6, some (.int x6)), (7, some (.int x7)), (8, some (.int x8))] → ZM p l e 8 s m args below meth c D cz qm wr_seat σ0 (some (.int r.1)) r.2 σ (F0 m 54 ls []))) (σ : MS) (x1 : Int32) (x2 : Int32) (x3 : Int32) (x4 : Int32) (x5 : Int32) (x6 : Int32) (x7 : Int32) (x8 : Int32) (x9 : Int32) (x10 : Int32) (ls : Array Slot), M_seat_L121 G k54 σ x1 x2 x3 x4 x5 x6 x7 x8 x9 x10 = some r → ag wr_seat σ0 σ → lq ls 12 [(0, some (.ref qm)), (1, some (.int x1)), (2, some (.int x2)), (3, some (.int x3)), (4, some (.int x4)), (5, some (.int x5)), (6, some (.int x6)), (7, some (.int x7)), (8, some (.int x8)), (9, some (.int x9)), (10, some (.int x10))] → ZM p l e 8 s m args below meth c D cz qm wr_seat σ0 (some (.int r.1)) r.2 σ (F0 m 121 ls []) := by
    intro k54 hk54 σ x1 x2 x3 x4 x5 x6 x7 x8 x9 x10 ls hF ha hl
    unfold M_seat_L121 at hF
    refine g_aload_n (i := 0) K hl dX4_seat_121 rfl rfl ?_
    refine mget_42 K dX4_seat_122 ?_
    refine g_iload_n (i := 1) K hl dX4_seat_125 rfl rfl ?_
    refine g_iload (i := 9) K hl dX4_seat_126 rfl ?_
    refine mst_42 K hF ha rfl dX4_seat_128 (fun σ1 hF ha => ?_)
    refine g_aload_n (i := 0) K hl dX4_seat_129 rfl rfl ?_
    refine mget_43 K dX4_seat_130 ?_
    refine g_iload_n (i := 1) K hl dX4_seat_133 rfl rfl ?_
    refine g_iload (i := 10) K hl dX4_seat_134 rfl ?_
    refine mst_43 K hF ha rfl dX4_seat_136 (fun σ2 hF ha => ?_)
    refine g_aload_n (i := 0) K hl dX4_seat_137 rfl rfl ?_
    refine g_iload_n (i := 1) K hl dX4_seat_138 rfl rfl ?_
    refine g_iload_n (i := 2) K hl dX4_seat_139 rfl rfl ?_
    refine m_callVW K hl hF ha rfl (fun t h => w_getsAlone G _ _ _ t h) rfl cp_getsAlone q2206 rfl rfl rfl rfl rfl dX4_seat_140 (fun t4 σ3 hF ha => ?_)
    refine g_istore (i := 11) K hl dX4_seat_143 rfl rfl (fun ls hl => ?_)
    refine g_iload (i := 11) K hl dX4_seat_145 rfl ?_
    refine g_iload (i := 7) K hl dX4_seat_147 rfl ?_
    refine g_icmp_gt (tgt := 155) K hF dX4_seat_149 (by decide) (fun hF => ?_) (fun hF => ?_)
    · refine g_iload (i := 8) K hl dX4_seat_155 rfl ?_
      refine g_istore (i := 6) K hl dX4_seat_157 rfl rfl (fun ls hl => ?_)
      refine g_iload (i := 11) K hl dX4_seat_159 rfl ?_
      refine g_istore (i := 7) K hl dX4_seat_161 rfl rfl (fun ls hl => ?_)
      refine g_iinc (i := 8) K hl dX4_seat_163 rfl lc_1 rfl rfl (fun ls hl => ?_)
      refine g_goto (tgt := 54) K dX4_seat_166 (by decide) ?_
      exact hk54 _ _ _ _ _ _ _ _ _ ls hF ha (lq_sub hl rfl)
    · refine g_goto (tgt := 163) K dX4_seat_152 (by decide) ?_
      refine g_iinc (i := 8) K hl dX4_seat_163 rfl lc_1 rfl rfl (fun ls hl => ?_)
      refine g_goto (tgt := 54) K dX4_seat_166 (by decide) ?_
      exact hk54 _ _ _ _ _ _ _ _ _ ls hF ha (lq_sub hl rfl)
  have B54 : ∀ (k54 : MS → Int32 → Int32 → Int32 → Int32 → Int32 → Int32 → Int32 → Int32 → Option (Int32 × MS)) (hk54 : (∀ (σ : MS) (x1 : Int32) (x2 : Int32) (x3 : Int32) (x4 : Int32) (x5 : Int32) (x6 : Int32) (x7 : Int32) (x8 : Int32) (ls : Array Slot), k54 σ x1 x2 x3 x4 x5 x6 x7 x8 = some r → ag wr_seat σ0 σ → lq ls 12 [(0, some (.ref qm)), (1, some (.int x1)), (2, some (.int x2)), (3, some (.int x3)), (4, some (.int x4)), (5, some (.int x5)), (6, some (.int x6)), (7, some (.int x7)), (8, some (.int x8))] → ZM p l e 8 s m args below meth c D cz qm wr_seat σ0 (some (.int r.1)) r.2 σ (F0 m 54 ls []))) (σ : MS) (x1 : Int32) (x2 : Int32) (x3 : Int32) (x4 : Int32) (x5 : Int32) (x6 : Int32) (x7 : Int32) (x8 : Int32) (ls : Array Slot), M_seat_B54 G k54 σ x1 x2 x3 x4 x5 x6 x7 x8 = some r → ag wr_seat σ0 σ → lq ls 12 [(0, some (.ref qm)), (1, some (.int x1)), (2, some (.int x2)), (3, some (.int x3)), (4, some (.int x4)), (5, some (.int x5)), (6, some (.int x6)), (7, some (.int x7)), (8, some (.int x8))] → ZM p l e 8 s m args below meth c D cz qm wr_seat σ0 (some (.int r.1)) r.2 σ (F0 m 54 ls []) := by
    intro k54 hk54 σ x1 x2 x3 x4 x5 x6 x7 x8 ls hF ha hl
    unfold M_seat_B54 at hF
    refine g_iload (i := 8) K hl dX4_seat_54 rfl ?_
    refine g_aload_n (i := 0) K hl dX4_seat_56 rfl rfl ?_
    refine mget_56 K dX4_seat_57 ?_
    refine g_aload_n (i := 0) K hl dX4_seat_60 rfl rfl ?_
    refine mget_57 K dX4_seat_61 ?_
    refine g_imul K dX4_seat_64 ?_
    refine g_icmp_ge (tgt := 169) K hF dX4_seat_65 (by decide) (fun hF => ?_) (fun hF => ?_)
    · refine g_aload_n (i := 0) K hl dX4_seat_169 rfl rfl ?_
      refine mget_42 K dX4_seat_170 ?_
      refine g_iload_n (i := 1) K hl dX4_seat_173 rfl rfl ?_
      refine g_iload (i := 4) K hl dX4_seat_174 rfl ?_
      refine mst_42 K hF ha rfl dX4_seat_176 (fun σ1 hF ha => ?_)
      refine g_aload_n (i := 0) K hl dX4_seat_177 rfl rfl ?_
      refine mget_43 K dX4_seat_178 ?_
      refine g_iload_n (i := 1) K hl dX4_seat_181 rfl rfl ?_
      refine g_iload (i := 5) K hl dX4_seat_182 rfl ?_
      refine mst_43 K hF ha rfl dX4_seat_184 (fun σ2 hF ha => ?_)
      refine g_iload_n (i := 3) K hl dX4_seat_185 rfl rfl ?_
      refine g_if_ne (tgt := 199) K hF dX4_seat_186 (by decide) (fun hF => ?_) (fun hF => ?_)
      · refine g_iload_n (i := 3) K hl dX4_seat_199 rfl rfl ?_
        refine g_iconst K dX4_seat_200 lc_1 ?_
        refine g_icmp_ne (tgt := 214) K hF dX4_seat_201 (by decide) (fun hF => ?_) (fun hF => ?_)
        · refine g_iload (i := 7) K hl dX4_seat_214 rfl ?_
          exact m_iretW K hF ha dX4_seat_216
        · refine g_iload (i := 6) K hl dX4_seat_204 rfl ?_
          refine g_aload_n (i := 0) K hl dX4_seat_206 rfl rfl ?_
          refine mget_56 K dX4_seat_207 ?_
          refine g_idivT K hF dX4_seat_210 (fun t3 hF => ?_)
          refine g_goto (tgt := 216) K dX4_seat_211 (by decide) ?_
          exact m_iretW K hF ha dX4_seat_216
      · refine g_iload (i := 6) K hl dX4_seat_189 rfl ?_
        refine g_aload_n (i := 0) K hl dX4_seat_191 rfl rfl ?_
        refine mget_56 K dX4_seat_192 ?_
        refine g_iremT K hF dX4_seat_195 (fun t4 hF => ?_)
        refine g_goto (tgt := 216) K dX4_seat_196 (by decide) ?_
        exact m_iretW K hF ha dX4_seat_216
    · refine g_iload (i := 8) K hl dX4_seat_68 rfl ?_
      refine g_aload_n (i := 0) K hl dX4_seat_70 rfl rfl ?_
      refine mget_56 K dX4_seat_71 ?_
      refine g_iremT K hF dX4_seat_74 (fun t5 hF => ?_)
      refine g_istore (i := 9) K hl dX4_seat_75 rfl rfl (fun ls hl => ?_)
      refine g_iload (i := 8) K hl dX4_seat_77 rfl ?_
      refine g_aload_n (i := 0) K hl dX4_seat_79 rfl rfl ?_
      refine mget_56 K dX4_seat_80 ?_
      refine g_idivT K hF dX4_seat_83 (fun t6 hF => ?_)
      refine g_istore (i := 10) K hl dX4_seat_84 rfl rfl (fun ls hl => ?_)
      refine g_iload (i := 9) K hl dX4_seat_86 rfl ?_
      refine g_if_le (tgt := 121) K hF dX4_seat_88 (by decide) (fun hF => ?_) (fun hF => ?_)
      · exact L121 k54 hk54 _ _ _ _ _ _ _ _ _ _ _ ls hF ha (lq_sub hl rfl)
      · refine g_iload (i := 9) K hl dX4_seat_91 rfl ?_
        refine g_aload_n (i := 0) K hl dX4_seat_93 rfl rfl ?_
        refine mget_56 K dX4_seat_94 ?_
        refine g_iconst K dX4_seat_97 lc_1 ?_
        refine g_isub K dX4_seat_98 ?_
        refine g_icmp_ge (tgt := 121) K hF dX4_seat_99 (by decide) (fun hF => ?_) (fun hF => ?_)
        · exact L121 k54 hk54 _ _ _ _ _ _ _ _ _ _ _ ls hF ha (lq_sub hl rfl)
        · refine g_iload (i := 10) K hl dX4_seat_102 rfl ?_
          refine g_if_le (tgt := 121) K hF dX4_seat_104 (by decide) (fun hF => ?_) (fun hF => ?_)
          · exact L121 k54 hk54 _ _ _ _ _ _ _ _ _ _ _ ls hF ha (lq_sub hl rfl)
          · refine g_iload (i := 10) K hl dX4_seat_107 rfl ?_
            refine g_aload_n (i := 0) K hl dX4_seat_109 rfl rfl ?_
            refine mget_57 K dX4_seat_110 ?_
            refine g_iconst K dX4_seat_113 lc_1 ?_
            refine g_isub K dX4_seat_114 ?_
            refine g_icmp_ge (tgt := 121) K hF dX4_seat_115 (by decide) (fun hF => ?_) (fun hF => ?_)
            · exact L121 k54 hk54 _ _ _ _ _ _ _ _ _ _ _ ls hF ha (lq_sub hl rfl)
            · refine g_goto (tgt := 163) K dX4_seat_118 (by decide) ?_
              refine g_iinc (i := 8) K hl dX4_seat_163 rfl lc_1 rfl rfl (fun ls hl => ?_)
              refine g_goto (tgt := 54) K dX4_seat_166 (by decide) ?_
              exact hk54 _ _ _ _ _ _ _ _ _ ls hF ha (lq_sub hl rfl)
  have L54 : ∀  (n : Nat) (σ : MS) (x1 : Int32) (x2 : Int32) (x3 : Int32) (x4 : Int32) (x5 : Int32) (x6 : Int32) (x7 : Int32) (x8 : Int32) (ls : Array Slot), M_seat_L54 G  n σ x1 x2 x3 x4 x5 x6 x7 x8 = some r → ag wr_seat σ0 σ → lq ls 12 [(0, some (.ref qm)), (1, some (.int x1)), (2, some (.int x2)), (3, some (.int x3)), (4, some (.int x4)), (5, some (.int x5)), (6, some (.int x6)), (7, some (.int x7)), (8, some (.int x8))] → ZM p l e 8 s m args below meth c D cz qm wr_seat σ0 (some (.int r.1)) r.2 σ (F0 m 54 ls []) := by
    intro  n
    induction n with
    | zero => intro σ x1 x2 x3 x4 x5 x6 x7 x8 ls hF; exact absurd hF (fun h => by cases h)
    | succ n ih => intro σ x1 x2 x3 x4 x5 x6 x7 x8 ls hF ha hl; exact B54  _ ih _ _ _ _ _ _ _ _ _ ls hF ha hl
  have ha : ag wr_seat σ0 σ0 := ag.rf
  unfold M_seat at hF
  refine g_aload_n (i := 0) K hl dX4_seat_0 rfl rfl ?_
  refine g_iload_n (i := 1) K hl dX4_seat_1 rfl rfl ?_
  refine m_callVP K hl hF (fun t h => w_isBobber _ _ t h) rfl cp_isBobber q2015 rfl rfl rfl rfl rfl dX4_seat_2 (fun t1 hF => ?_)
  refine g_if_eq (tgt := 27) K hF dX4_seat_5 (by decide) (fun hF => ?_) (fun hF => ?_)
  · refine g_iconst K dX4_seat_27 lc_m1 ?_
    exact m_iretW K hF ha dX4_seat_28
  · refine g_iload_n (i := 2) K hl dX4_seat_8 rfl rfl ?_
    refine g_iconst K dX4_seat_9 lc_1 ?_
    refine g_bipush K dX4_seat_10 lb_10 ?_
    refine m_callSP K hl hF (fun t h => w_isIn _ _ _ _ t h) cp_isIn q2008 rfl rfl rfl rfl rfl dX4_seat_12 (fun t2 hF => ?_)
    refine g_if_eq (tgt := 27) K hF dX4_seat_15 (by decide) (fun hF => ?_) (fun hF => ?_)
    · refine g_iconst K dX4_seat_27 lc_m1 ?_
      exact m_iretW K hF ha dX4_seat_28
    · refine g_iload_n (i := 3) K hl dX4_seat_18 rfl rfl ?_
      refine g_iconst K dX4_seat_19 lc_0 ?_
      refine g_iconst K dX4_seat_20 lc_2 ?_
      refine m_callSP K hl hF (fun t h => w_isIn _ _ _ _ t h) cp_isIn q2008 rfl rfl rfl rfl rfl dX4_seat_21 (fun t3 hF => ?_)
      refine g_if_ne (tgt := 29) K hF dX4_seat_24 (by decide) (fun hF => ?_) (fun hF => ?_)
      · refine g_aload_n (i := 0) K hl dX4_seat_29 rfl rfl ?_
        refine mget_42 K dX4_seat_30 ?_
        refine g_iload_n (i := 1) K hl dX4_seat_33 rfl rfl ?_
        refine mld_42 K hF dX4_seat_34 (fun t4 hF => ?_)
        refine g_istore (i := 4) K hl dX4_seat_35 rfl rfl (fun ls hl => ?_)
        refine g_aload_n (i := 0) K hl dX4_seat_37 rfl rfl ?_
        refine mget_43 K dX4_seat_38 ?_
        refine g_iload_n (i := 1) K hl dX4_seat_41 rfl rfl ?_
        refine mld_43 K hF dX4_seat_42 (fun t5 hF => ?_)
        refine g_istore (i := 5) K hl dX4_seat_43 rfl rfl (fun ls hl => ?_)
        refine g_iconst K dX4_seat_45 lc_m1 ?_
        refine g_istore (i := 6) K hl dX4_seat_46 rfl rfl (fun ls hl => ?_)
        refine g_iconst K dX4_seat_48 lc_m1 ?_
        refine g_istore (i := 7) K hl dX4_seat_49 rfl rfl (fun ls hl => ?_)
        refine g_iconst K dX4_seat_51 lc_0 ?_
        refine g_istore (i := 8) K hl dX4_seat_52 rfl rfl (fun ls hl => ?_)
        exact L54  G _ _ _ _ _ _ _ _ _ ls hF ha (lq_sub hl rfl)
      · refine g_iconst K dX4_seat_27 lc_m1 ?_
        exact m_iretW K hF ha dX4_seat_28

theorem cp_layTurn : cpV yX4_layTurn cX4_layTurn 4 (some .boolean) 1 := ⟨q2216, qs131, q152, q2217, by decide +kernel⟩
set_option maxHeartbeats 4000000 in
set_option maxRecDepth 100000 in
theorem w_layTurn {l : Launch} {D : va_G} {cz : Nat → ClassId} {qm : Nat} (G : Nat) (σ0 : MS) (a0 : Int32) (r : (Int32 × MS)) (hF : M_layTurn G σ0 a0 = some r) : mMet l D cz qm yX4_layTurn cX4_layTurn 4 (some .boolean) 0 wr_layTurn [.ref qm, .int a0] σ0 (some (.int r.1)) r.2 := by
  refine m_of (by decide) rfl ?_
  intro p e s m args below meth c ls K hl
  have B9 : ∀ (k9 : MS → Int32 → Int32 → Int32 → Option (Int32 × MS)) (hk9 : (∀ (σ : MS) (x1 : Int32) (x2 : Int32) (x3 : Int32) (ls : Array Slot), k9 σ x1 x2 x3 = some r → ag wr_layTurn σ0 σ → lq ls 4 [(0, some (.ref qm)), (1, some (.int x1)), (2, some (.int x2)), (3, some (.int x3))] → ZM p l e 0 s m args below meth c D cz qm wr_layTurn σ0 (some (.int r.1)) r.2 σ (F0 m 9 ls []))) (σ : MS) (x1 : Int32) (x2 : Int32) (x3 : Int32) (ls : Array Slot), M_layTurn_B9 G k9 σ x1 x2 x3 = some r → ag wr_layTurn σ0 σ → lq ls 4 [(0, some (.ref qm)), (1, some (.int x1)), (2, some (.int x2)), (3, some (.int x3))] → ZM p l e 0 s m args below meth c D cz qm wr_layTurn σ0 (some (.int r.1)) r.2 σ (F0 m 9 ls []) := by
    intro k9 hk9 σ x1 x2 x3 ls hF ha hl
    unfold M_layTurn_B9 at hF
    refine g_iload_n (i := 3) K hl dX4_layTurn_9 rfl rfl ?_
    refine g_if_lt (tgt := 50) K hF dX4_layTurn_10 (by decide) (fun hF => ?_) (fun hF => ?_)
    · refine g_iload_n (i := 2) K hl dX4_layTurn_50 rfl rfl ?_
      refine g_iconst K dX4_layTurn_51 lc_1 ?_
      refine g_aload_n (i := 0) K hl dX4_layTurn_52 rfl rfl ?_
      refine mget_61 K dX4_layTurn_53 ?_
      refine g_ishl K dX4_layTurn_56 ?_
      refine g_iconst K dX4_layTurn_57 lc_1 ?_
      refine g_isub K dX4_layTurn_58 ?_
      refine g_icmp_ne (tgt := 66) K hF dX4_layTurn_59 (by decide) (fun hF => ?_) (fun hF => ?_)
      · refine g_iconst K dX4_layTurn_66 lc_0 ?_
        exact m_zretW K hF (Or.inl rfl) ha dX4_layTurn_67
      · refine g_iconst K dX4_layTurn_62 lc_1 ?_
        refine g_goto (tgt := 67) K dX4_layTurn_63 (by decide) ?_
        exact m_zretW K hF (Or.inr rfl) ha dX4_layTurn_67
    · refine g_aload_n (i := 0) K hl dX4_layTurn_13 rfl rfl ?_
      refine mget_81 K dX4_layTurn_14 ?_
      refine g_iload_n (i := 3) K hl dX4_layTurn_17 rfl rfl ?_
      refine g_iload_n (i := 1) K hl dX4_layTurn_18 rfl rfl ?_
      refine g_iconst K dX4_layTurn_19 lc_2 ?_
      refine g_aload_n (i := 0) K hl dX4_layTurn_20 rfl rfl ?_
      refine mget_61 K dX4_layTurn_21 ?_
      refine g_iconst K dX4_layTurn_24 lc_1 ?_
      refine g_isub K dX4_layTurn_25 ?_
      refine g_iload_n (i := 3) K hl dX4_layTurn_26 rfl rfl ?_
      refine g_isub K dX4_layTurn_27 ?_
      refine g_imul K dX4_layTurn_28 ?_
      refine g_ishr K dX4_layTurn_29 ?_
      refine g_iconst K dX4_layTurn_30 lc_3 ?_
      refine g_iand K dX4_layTurn_31 ?_
      refine mst_81 K hF ha rfl dX4_layTurn_32 (fun σ1 hF ha => ?_)
      refine g_iload_n (i := 2) K hl dX4_layTurn_33 rfl rfl ?_
      refine g_iconst K dX4_layTurn_34 lc_1 ?_
      refine g_aload_n (i := 0) K hl dX4_layTurn_35 rfl rfl ?_
      refine mget_81 K dX4_layTurn_36 ?_
      refine g_iload_n (i := 3) K hl dX4_layTurn_39 rfl rfl ?_
      refine mld_81 K hF dX4_layTurn_40 (fun t2 hF => ?_)
      refine g_ishl K dX4_layTurn_41 ?_
      refine g_ior K dX4_layTurn_42 ?_
      refine g_istore_n (i := 2) K hl dX4_layTurn_43 rfl rfl rfl (fun ls hl => ?_)
      refine g_iinc (i := 3) K hl dX4_layTurn_44 rfl lc_m1 rfl rfl (fun ls hl => ?_)
      refine g_goto (tgt := 9) K dX4_layTurn_47 (by decide) ?_
      exact hk9 _ _ _ _ ls hF ha (lq_sub hl rfl)
  have L9 : ∀  (n : Nat) (σ : MS) (x1 : Int32) (x2 : Int32) (x3 : Int32) (ls : Array Slot), M_layTurn_L9 G  n σ x1 x2 x3 = some r → ag wr_layTurn σ0 σ → lq ls 4 [(0, some (.ref qm)), (1, some (.int x1)), (2, some (.int x2)), (3, some (.int x3))] → ZM p l e 0 s m args below meth c D cz qm wr_layTurn σ0 (some (.int r.1)) r.2 σ (F0 m 9 ls []) := by
    intro  n
    induction n with
    | zero => intro σ x1 x2 x3 ls hF; exact absurd hF (fun h => by cases h)
    | succ n ih => intro σ x1 x2 x3 ls hF ha hl; exact B9  _ ih _ _ _ _ ls hF ha hl
  have ha : ag wr_layTurn σ0 σ0 := ag.rf
  unfold M_layTurn at hF
  refine g_iconst K dX4_layTurn_0 lc_0 ?_
  refine g_istore_n (i := 2) K hl dX4_layTurn_1 rfl rfl rfl (fun ls hl => ?_)
  refine g_aload_n (i := 0) K hl dX4_layTurn_2 rfl rfl ?_
  refine mget_61 K dX4_layTurn_3 ?_
  refine g_iconst K dX4_layTurn_6 lc_1 ?_
  refine g_isub K dX4_layTurn_7 ?_
  refine g_istore_n (i := 3) K hl dX4_layTurn_8 rfl rfl rfl (fun ls hl => ?_)
  exact L9  G _ _ _ _ ls hF ha (lq_sub hl rfl)

theorem cp_order : cpV yX4_order cX4_order 7 (some .int) 1 := ⟨q2211, q2212, q152, q2213, by decide +kernel⟩
set_option maxHeartbeats 4000000 in
set_option maxRecDepth 100000 in
theorem w_order {l : Launch} {D : va_G} {cz : Nat → ClassId} {qm : Nat} (G : Nat) (σ0 : MS) (a0 : Int32) (r : (Int32 × MS)) (hF : M_order G σ0 a0 = some r) : mMet l D cz qm yX4_order cX4_order 7 (some .int) 7 wr_order [.ref qm, .int a0] σ0 (some (.int r.1)) r.2 := by
  refine m_of (by decide) rfl ?_
  intro p e s m args below meth c ls K hl
  have B135 : ∀ (k21 : MS → Int32 → Int32 → Int32 → Option (Int32 × MS)) (hk21 : (∀ (σ : MS) (x1 : Int32) (x2 : Int32) (x3 : Int32) (ls : Array Slot), k21 σ x1 x2 x3 = some r → ag wr_order σ0 σ → lq ls 7 [(0, some (.ref qm)), (1, some (.int x1)), (2, some (.int x2)), (3, some (.int x3))] → ZM p l e 7 s m args below meth c D cz qm wr_order σ0 (some (.int r.1)) r.2 σ (F0 m 21 ls []))) (k135 : MS → Int32 → Int32 → Int32 → Int32 → Option (Int32 × MS)) (hk135 : (∀ (σ : MS) (x1 : Int32) (x2 : Int32) (x3 : Int32) (x5 : Int32) (ls : Array Slot), k135 σ x1 x2 x3 x5 = some r → ag wr_order σ0 σ → lq ls 7 [(0, some (.ref qm)), (1, some (.int x1)), (2, some (.int x2)), (3, some (.int x3)), (5, some (.int x5))] → ZM p l e 7 s m args below meth c D cz qm wr_order σ0 (some (.int r.1)) r.2 σ (F0 m 135 ls []))) (σ : MS) (x1 : Int32) (x2 : Int32) (x3 : Int32) (x5 : Int32) (ls : Array Slot), M_order_B135 G k21 k135 σ x1 x2 x3 x5 = some r → ag wr_order σ0 σ → lq ls 7 [(0, some (.ref qm)), (1, some (.int x1)), (2, some (.int x2)), (3, some (.int x3)), (5, some (.int x5))] → ZM p l e 7 s m args below meth c D cz qm wr_order σ0 (some (.int r.1)) r.2 σ (F0 m 135 ls []) := by
    intro k21 hk21 k135 hk135 σ x1 x2 x3 x5 ls hF ha hl
    unfold M_order_B135 at hF
    refine g_iload (i := 5) K hl dX4_order_135 rfl ?_
    refine g_aload_n (i := 0) K hl dX4_order_137 rfl rfl ?_
    refine mget_61 K dX4_order_138 ?_
    refine g_icmp_ge (tgt := 164) K hF dX4_order_141 (by decide) (fun hF => ?_) (fun hF => ?_)
    · refine g_aload_n (i := 0) K hl dX4_order_164 rfl rfl ?_
      refine g_aload_n (i := 0) K hl dX4_order_165 rfl rfl ?_
      refine mget_61 K dX4_order_166 ?_
      refine mput_85 K hF ha rfl dX4_order_169 (fun σ1 hF ha => ?_)
      refine g_iinc (i := 3) K hl dX4_order_172 rfl lc_1 rfl rfl (fun ls hl => ?_)
      refine g_goto (tgt := 21) K dX4_order_175 (by decide) ?_
      exact hk21 _ _ _ _ ls hF ha (lq_sub hl rfl)
    · refine g_aload_n (i := 0) K hl dX4_order_144 rfl rfl ?_
      refine mget_83 K dX4_order_145 ?_
      refine g_iload (i := 5) K hl dX4_order_148 rfl ?_
      refine g_aload_n (i := 0) K hl dX4_order_150 rfl rfl ?_
      refine mget_81 K dX4_order_151 ?_
      refine g_iload (i := 5) K hl dX4_order_154 rfl ?_
      refine mld_81 K hF dX4_order_156 (fun t2 hF => ?_)
      refine mst_83 K hF ha rfl dX4_order_157 (fun σ3 hF ha => ?_)
      refine g_iinc (i := 5) K hl dX4_order_158 rfl lc_1 rfl rfl (fun ls hl => ?_)
      refine g_goto (tgt := 135) K dX4_order_161 (by decide) ?_
      exact hk135 _ _ _ _ _ ls hF ha (lq_sub hl rfl)
  have L135 : ∀ (k21 : MS → Int32 → Int32 → Int32 → Option (Int32 × MS)) (hk21 : (∀ (σ : MS) (x1 : Int32) (x2 : Int32) (x3 : Int32) (ls : Array Slot), k21 σ x1 x2 x3 = some r → ag wr_order σ0 σ → lq ls 7 [(0, some (.ref qm)), (1, some (.int x1)), (2, some (.int x2)), (3, some (.int x3))] → ZM p l e 7 s m args below meth c D cz qm wr_order σ0 (some (.int r.1)) r.2 σ (F0 m 21 ls []))) (n : Nat) (σ : MS) (x1 : Int32) (x2 : Int32) (x3 : Int32) (x5 : Int32) (ls : Array Slot), M_order_L135 G k21 n σ x1 x2 x3 x5 = some r → ag wr_order σ0 σ → lq ls 7 [(0, some (.ref qm)), (1, some (.int x1)), (2, some (.int x2)), (3, some (.int x3)), (5, some (.int x5))] → ZM p l e 7 s m args below meth c D cz qm wr_order σ0 (some (.int r.1)) r.2 σ (F0 m 135 ls []) := by
    intro k21 hk21 n
    induction n with
    | zero => intro σ x1 x2 x3 x5 ls hF; exact absurd hF (fun h => by cases h)
    | succ n ih => intro σ x1 x2 x3 x5 ls hF ha hl; exact B135 k21 hk21 _ ih _ _ _ _ _ ls hF ha hl
  have B63 : ∀ (k21 : MS → Int32 → Int32 → Int32 → Option (Int32 × MS)) (hk21 : (∀ (σ : MS) (x1 : Int32) (x2 : Int32) (x3 : Int32) (ls : Array Slot), k21 σ x1 x2 x3 = some r → ag wr_order σ0 σ → lq ls 7 [(0, some (.ref qm)), (1, some (.int x1)), (2, some (.int x2)), (3, some (.int x3))] → ZM p l e 7 s m args below meth c D cz qm wr_order σ0 (some (.int r.1)) r.2 σ (F0 m 21 ls []))) (k54 : MS → Int32 → Int32 → Int32 → Int32 → Int32 → Option (Int32 × MS)) (hk54 : (∀ (σ : MS) (x1 : Int32) (x2 : Int32) (x3 : Int32) (x4 : Int32) (x5 : Int32) (ls : Array Slot), k54 σ x1 x2 x3 x4 x5 = some r → ag wr_order σ0 σ → lq ls 7 [(0, some (.ref qm)), (1, some (.int x1)), (2, some (.int x2)), (3, some (.int x3)), (4, some (.int x4)), (5, some (.int x5))] → ZM p l e 7 s m args below meth c D cz qm wr_order σ0 (some (.int r.1)) r.2 σ (F0 m 54 ls []))) (k63 : MS → Int32 → Int32 → Int32 → Int32 → Int32 → Int32 → Option (Int32 × MS)) (hk63 : (∀ (σ : MS) (x1 : Int32) (x2 : Int32) (x3 : Int32) (x4 : Int32) (x5 : Int32) (x6 : Int32) (ls : Array Slot), k63 σ x1 x2 x3 x4 x5 x6 = some r → ag wr_order σ0 σ → lq ls 7 [(0, some (.ref qm)), (1, some (.int x1)), (2, some (.int x2)), (3, some (.int x3)), (4, some (.int x4)), (5, some (.int x5)), (6, some (.int x6))] → ZM p l e 7 s m args below meth c D cz qm wr_order σ0 (some (.int r.1)) r.2 σ (F0 m 63 ls []))) (σ : MS) (x1 : Int32) (x2 : Int32) (x3 : Int32) (x4 : Int32) (x5 : Int32) (x6 : Int32) (ls : Array Slot), M_order_B63 G k21 k54 k63 σ x1 x2 x3 x4 x5 x6 = some r → ag wr_order σ0 σ → lq ls 7 [(0, some (.ref qm)), (1, some (.int x1)), (2, some (.int x2)), (3, some (.int x3)), (4, some (.int x4)), (5, some (.int x5)), (6, some (.int x6))] → ZM p l e 7 s m args below meth c D cz qm wr_order σ0 (some (.int r.1)) r.2 σ (F0 m 63 ls []) := by
    intro k21 hk21 k54 hk54 k63 hk63 σ x1 x2 x3 x4 x5 x6 ls hF ha hl
    unfold M_order_B63 at hF
    refine g_iload (i := 6) K hl dX4_order_63 rfl ?_
    refine g_aload_n (i := 0) K hl dX4_order_65 rfl rfl ?_
    refine mget_61 K dX4_order_66 ?_
    refine g_icmp_ge (tgt := 114) K hF dX4_order_69 (by decide) (fun hF => ?_) (fun hF => ?_)
    · refine g_iinc (i := 5) K hl dX4_order_114 rfl lc_1 rfl rfl (fun ls hl => ?_)
      refine g_goto (tgt := 54) K dX4_order_117 (by decide) ?_
      exact hk54 _ _ _ _ _ _ ls hF ha (lq_sub hl rfl)
    · refine g_iload (i := 4) K hl dX4_order_72 rfl ?_
      refine g_aload_n (i := 0) K hl dX4_order_74 rfl rfl ?_
      refine g_aload_n (i := 0) K hl dX4_order_75 rfl rfl ?_
      refine mget_81 K dX4_order_76 ?_
      refine g_iload (i := 6) K hl dX4_order_79 rfl ?_
      refine mld_81 K hF dX4_order_81 (fun t1 hF => ?_)
      refine g_aload_n (i := 0) K hl dX4_order_82 rfl rfl ?_
      refine mget_47 K dX4_order_83 ?_
      refine g_aload_n (i := 0) K hl dX4_order_86 rfl rfl ?_
      refine mget_81 K dX4_order_87 ?_
      refine g_iload (i := 6) K hl dX4_order_90 rfl ?_
      refine mld_81 K hF dX4_order_92 (fun t2 hF => ?_)
      refine mld_47 K hF dX4_order_93 (fun t3 hF => ?_)
      refine m_callVW K hl hF ha rfl (fun t h => w_actsBy G _ _ _ t h) rfl cp_actsBy q2153 rfl rfl rfl rfl rfl dX4_order_94 (fun t5 σ4 hF ha => ?_)
      refine g_if_eq (tgt := 104) K hF dX4_order_97 (by decide) (fun hF => ?_) (fun hF => ?_)
      · refine g_iconst K dX4_order_104 lc_0 ?_
        refine g_iadd K dX4_order_105 ?_
        refine g_istore (i := 4) K hl dX4_order_106 rfl rfl (fun ls hl => ?_)
        refine g_iinc (i := 6) K hl dX4_order_108 rfl lc_1 rfl rfl (fun ls hl => ?_)
        refine g_goto (tgt := 63) K dX4_order_111 (by decide) ?_
        exact hk63 _ _ _ _ _ _ _ ls hF ha (lq_sub hl rfl)
      · refine g_iconst K dX4_order_100 lc_1 ?_
        refine g_goto (tgt := 105) K dX4_order_101 (by decide) ?_
        refine g_iadd K dX4_order_105 ?_
        refine g_istore (i := 4) K hl dX4_order_106 rfl rfl (fun ls hl => ?_)
        refine g_iinc (i := 6) K hl dX4_order_108 rfl lc_1 rfl rfl (fun ls hl => ?_)
        refine g_goto (tgt := 63) K dX4_order_111 (by decide) ?_
        exact hk63 _ _ _ _ _ _ _ ls hF ha (lq_sub hl rfl)
  have L63 : ∀ (k21 : MS → Int32 → Int32 → Int32 → Option (Int32 × MS)) (hk21 : (∀ (σ : MS) (x1 : Int32) (x2 : Int32) (x3 : Int32) (ls : Array Slot), k21 σ x1 x2 x3 = some r → ag wr_order σ0 σ → lq ls 7 [(0, some (.ref qm)), (1, some (.int x1)), (2, some (.int x2)), (3, some (.int x3))] → ZM p l e 7 s m args below meth c D cz qm wr_order σ0 (some (.int r.1)) r.2 σ (F0 m 21 ls []))) (k54 : MS → Int32 → Int32 → Int32 → Int32 → Int32 → Option (Int32 × MS)) (hk54 : (∀ (σ : MS) (x1 : Int32) (x2 : Int32) (x3 : Int32) (x4 : Int32) (x5 : Int32) (ls : Array Slot), k54 σ x1 x2 x3 x4 x5 = some r → ag wr_order σ0 σ → lq ls 7 [(0, some (.ref qm)), (1, some (.int x1)), (2, some (.int x2)), (3, some (.int x3)), (4, some (.int x4)), (5, some (.int x5))] → ZM p l e 7 s m args below meth c D cz qm wr_order σ0 (some (.int r.1)) r.2 σ (F0 m 54 ls []))) (n : Nat) (σ : MS) (x1 : Int32) (x2 : Int32) (x3 : Int32) (x4 : Int32) (x5 : Int32) (x6 : Int32) (ls : Array Slot), M_order_L63 G k21 k54 n σ x1 x2 x3 x4 x5 x6 = some r → ag wr_order σ0 σ → lq ls 7 [(0, some (.ref qm)), (1, some (.int x1)), (2, some (.int x2)), (3, some (.int x3)), (4, some (.int x4)), (5, some (.int x5)), (6, some (.int x6))] → ZM p l e 7 s m args below meth c D cz qm wr_order σ0 (some (.int r.1)) r.2 σ (F0 m 63 ls []) := by
    intro k21 hk21 k54 hk54 n
    induction n with
    | zero => intro σ x1 x2 x3 x4 x5 x6 ls hF; exact absurd hF (fun h => by cases h)
    | succ n ih => intro σ x1 x2 x3 x4 x5 x6 ls hF ha hl; exact B63 k21 hk21 k54 hk54 _ ih _ _ _ _ _ _ _ ls hF ha hl
  have B54 : ∀ (k21 : MS → Int32 → Int32 → Int32 → Option (Int32 × MS)) (hk21 : (∀ (σ : MS) (x1 : Int32) (x2 : Int32) (x3 : Int32) (ls : Array Slot), k21 σ x1 x2 x3 = some r → ag wr_order σ0 σ → lq ls 7 [(0, some (.ref qm)), (1, some (.int x1)), (2, some (.int x2)), (3, some (.int x3))] → ZM p l e 7 s m args below meth c D cz qm wr_order σ0 (some (.int r.1)) r.2 σ (F0 m 21 ls []))) (k54 : MS → Int32 → Int32 → Int32 → Int32 → Int32 → Option (Int32 × MS)) (hk54 : (∀ (σ : MS) (x1 : Int32) (x2 : Int32) (x3 : Int32) (x4 : Int32) (x5 : Int32) (ls : Array Slot), k54 σ x1 x2 x3 x4 x5 = some r → ag wr_order σ0 σ → lq ls 7 [(0, some (.ref qm)), (1, some (.int x1)), (2, some (.int x2)), (3, some (.int x3)), (4, some (.int x4)), (5, some (.int x5))] → ZM p l e 7 s m args below meth c D cz qm wr_order σ0 (some (.int r.1)) r.2 σ (F0 m 54 ls []))) (σ : MS) (x1 : Int32) (x2 : Int32) (x3 : Int32) (x4 : Int32) (x5 : Int32) (ls : Array Slot), M_order_B54 G k21 k54 σ x1 x2 x3 x4 x5 = some r → ag wr_order σ0 σ → lq ls 7 [(0, some (.ref qm)), (1, some (.int x1)), (2, some (.int x2)), (3, some (.int x3)), (4, some (.int x4)), (5, some (.int x5))] → ZM p l e 7 s m args below meth c D cz qm wr_order σ0 (some (.int r.1)) r.2 σ (F0 m 54 ls []) := by
    intro k21 hk21 k54 hk54 σ x1 x2 x3 x4 x5 ls hF ha hl
    unfold M_order_B54 at hF
    refine g_iload (i := 5) K hl dX4_order_54 rfl ?_
    refine g_iload_n (i := 1) K hl dX4_order_56 rfl rfl ?_
    refine g_icmp_ge (tgt := 120) K hF dX4_order_57 (by decide) (fun hF => ?_) (fun hF => ?_)
    · refine g_iload (i := 4) K hl dX4_order_120 rfl ?_
      refine g_iload_n (i := 2) K hl dX4_order_122 rfl rfl ?_
      refine g_icmp_gt (tgt := 129) K hF dX4_order_123 (by decide) (fun hF => ?_) (fun hF => ?_)
      · refine g_iload (i := 4) K hl dX4_order_129 rfl ?_
        refine g_istore_n (i := 2) K hl dX4_order_131 rfl rfl rfl (fun ls hl => ?_)
        refine g_iconst K dX4_order_132 lc_0 ?_
        refine g_istore (i := 5) K hl dX4_order_133 rfl rfl (fun ls hl => ?_)
        exact L135 k21 hk21 G _ _ _ _ _ ls hF ha (lq_sub hl rfl)
      · refine g_goto (tgt := 172) K dX4_order_126 (by decide) ?_
        refine g_iinc (i := 3) K hl dX4_order_172 rfl lc_1 rfl rfl (fun ls hl => ?_)
        refine g_goto (tgt := 21) K dX4_order_175 (by decide) ?_
        exact hk21 _ _ _ _ ls hF ha (lq_sub hl rfl)
    · refine g_iconst K dX4_order_60 lc_0 ?_
      refine g_istore (i := 6) K hl dX4_order_61 rfl rfl (fun ls hl => ?_)
      exact L63 k21 hk21 k54 hk54 G _ _ _ _ _ _ _ ls hF ha (lq_sub hl rfl)
  have L54 : ∀ (k21 : MS → Int32 → Int32 → Int32 → Option (Int32 × MS)) (hk21 : (∀ (σ : MS) (x1 : Int32) (x2 : Int32) (x3 : Int32) (ls : Array Slot), k21 σ x1 x2 x3 = some r → ag wr_order σ0 σ → lq ls 7 [(0, some (.ref qm)), (1, some (.int x1)), (2, some (.int x2)), (3, some (.int x3))] → ZM p l e 7 s m args below meth c D cz qm wr_order σ0 (some (.int r.1)) r.2 σ (F0 m 21 ls []))) (n : Nat) (σ : MS) (x1 : Int32) (x2 : Int32) (x3 : Int32) (x4 : Int32) (x5 : Int32) (ls : Array Slot), M_order_L54 G k21 n σ x1 x2 x3 x4 x5 = some r → ag wr_order σ0 σ → lq ls 7 [(0, some (.ref qm)), (1, some (.int x1)), (2, some (.int x2)), (3, some (.int x3)), (4, some (.int x4)), (5, some (.int x5))] → ZM p l e 7 s m args below meth c D cz qm wr_order σ0 (some (.int r.1)) r.2 σ (F0 m 54 ls []) := by
    intro k21 hk21 n
    induction n with
    | zero => intro σ x1 x2 x3 x4 x5 ls hF; exact absurd hF (fun h => by cases h)
    | succ n ih => intro σ x1 x2 x3 x4 x5 ls hF ha hl; exact B54 k21 hk21 _ ih _ _ _ _ _ _ ls hF ha hl
  have B21 : ∀ (k21 : MS → Int32 → Int32 → Int32 → Option (Int32 × MS)) (hk21 : (∀ (σ : MS) (x1 : Int32) (x2 : Int32) (x3 : Int32) (ls : Array Slot), k21 σ x1 x2 x3 = some r → ag wr_order σ0 σ → lq ls 7 [(0, some (.ref qm)), (1, some (.int x1)), (2, some (.int x2)), (3, some (.int x3))] → ZM p l e 7 s m args below meth c D cz qm wr_order σ0 (some (.int r.1)) r.2 σ (F0 m 21 ls []))) (σ : MS) (x1 : Int32) (x2 : Int32) (x3 : Int32) (ls : Array Slot), M_order_B21 G k21 σ x1 x2 x3 = some r → ag wr_order σ0 σ → lq ls 7 [(0, some (.ref qm)), (1, some (.int x1)), (2, some (.int x2)), (3, some (.int x3))] → ZM p l e 7 s m args below meth c D cz qm wr_order σ0 (some (.int r.1)) r.2 σ (F0 m 21 ls []) := by
    intro k21 hk21 σ x1 x2 x3 ls hF ha hl
    unfold M_order_B21 at hF
    refine g_iload_n (i := 3) K hl dX4_order_21 rfl rfl ?_
    refine g_iconst K dX4_order_22 lc_1 ?_
    refine g_iconst K dX4_order_23 lc_2 ?_
    refine g_aload_n (i := 0) K hl dX4_order_24 rfl rfl ?_
    refine mget_61 K dX4_order_25 ?_
    refine g_imul K dX4_order_28 ?_
    refine g_ishl K dX4_order_29 ?_
    refine g_icmp_ge (tgt := 178) K hF dX4_order_30 (by decide) (fun hF => ?_) (fun hF => ?_)
    · refine g_iload_n (i := 2) K hl dX4_order_178 rfl rfl ?_
      exact m_iretW K hF ha dX4_order_179
    · refine g_aload_n (i := 0) K hl dX4_order_33 rfl rfl ?_
      refine g_iload_n (i := 3) K hl dX4_order_34 rfl rfl ?_
      refine m_callVW K hl hF ha rfl (fun t h => w_layTurn G _ _ t h) rfl cp_layTurn q2214 rfl rfl rfl rfl rfl dX4_order_35 (fun t2 σ1 hF ha => ?_)
      refine g_if_ne (tgt := 44) K hF dX4_order_38 (by decide) (fun hF => ?_) (fun hF => ?_)
      · refine g_aload_n (i := 0) K hl dX4_order_44 rfl rfl ?_
        refine m_callVV K hl hF ha rfl (fun t h => w_load G _  t h) rfl cp_load q2027 rfl rfl rfl rfl rfl dX4_order_45 (fun σ3 hF ha => ?_)
        refine g_iconst K dX4_order_48 lc_0 ?_
        refine g_istore (i := 4) K hl dX4_order_49 rfl rfl (fun ls hl => ?_)
        refine g_iconst K dX4_order_51 lc_0 ?_
        refine g_istore (i := 5) K hl dX4_order_52 rfl rfl (fun ls hl => ?_)
        exact L54 k21 hk21 G _ _ _ _ _ _ ls hF ha (lq_sub hl rfl)
      · refine g_goto (tgt := 172) K dX4_order_41 (by decide) ?_
        refine g_iinc (i := 3) K hl dX4_order_172 rfl lc_1 rfl rfl (fun ls hl => ?_)
        refine g_goto (tgt := 21) K dX4_order_175 (by decide) ?_
        exact hk21 _ _ _ _ ls hF ha (lq_sub hl rfl)
  have L21 : ∀  (n : Nat) (σ : MS) (x1 : Int32) (x2 : Int32) (x3 : Int32) (ls : Array Slot), M_order_L21 G  n σ x1 x2 x3 = some r → ag wr_order σ0 σ → lq ls 7 [(0, some (.ref qm)), (1, some (.int x1)), (2, some (.int x2)), (3, some (.int x3))] → ZM p l e 7 s m args below meth c D cz qm wr_order σ0 (some (.int r.1)) r.2 σ (F0 m 21 ls []) := by
    intro  n
    induction n with
    | zero => intro σ x1 x2 x3 ls hF; exact absurd hF (fun h => by cases h)
    | succ n ih => intro σ x1 x2 x3 ls hF ha hl; exact B21  _ ih _ _ _ _ ls hF ha hl
  have ha : ag wr_order σ0 σ0 := ag.rf
  unfold M_order at hF
  refine g_aload_n (i := 0) K hl dX4_order_0 rfl rfl ?_
  refine g_iconst K dX4_order_1 lc_0 ?_
  refine mput_85 K hF ha rfl dX4_order_2 (fun σ1 hF ha => ?_)
  refine g_iload_n (i := 1) K hl dX4_order_5 rfl rfl ?_
  refine g_iconst K dX4_order_6 lc_1 ?_
  refine g_bipush K dX4_order_7 lb_10 ?_
  refine m_callSP K hl hF (fun t h => w_isIn _ _ _ _ t h) cp_isIn q2008 rfl rfl rfl rfl rfl dX4_order_9 (fun t2 hF => ?_)
  refine g_if_ne (tgt := 17) K hF dX4_order_12 (by decide) (fun hF => ?_) (fun hF => ?_)
  · refine g_iconst K dX4_order_17 lc_m1 ?_
    refine g_istore_n (i := 2) K hl dX4_order_18 rfl rfl rfl (fun ls hl => ?_)
    refine g_iconst K dX4_order_19 lc_0 ?_
    refine g_istore_n (i := 3) K hl dX4_order_20 rfl rfl rfl (fun ls hl => ?_)
    exact L21  G _ _ _ _ ls hF ha (lq_sub hl rfl)
  · refine g_iconst K dX4_order_15 lc_m1 ?_
    exact m_iretW K hF ha dX4_order_16
