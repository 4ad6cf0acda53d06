/-! walks of the model: printed by genm.py -/
theorem cp_doesDrive : cpV yX4_doesDrive cX4_doesDrive 8 (some .boolean) 5 := ⟨q2224, qs132, q152, q2225, by decide +kernel⟩
set_option maxHeartbeats 4000000 in
set_option maxRecDepth 100000 in
theorem w_doesDrive {l : Launch} {D : va_G} {cz : Nat → ClassId} {qm : Nat} (G : Nat) (σ0 : MS) (a0 : Int32) (a1 : Int32) (a2 : Int32) (a3 : Int32) (a4 : Int32) (r : (Int32 × MS)) (hF : M_doesDrive G σ0 a0 a1 a2 a3 a4 = some r) : mMet l D cz qm yX4_doesDrive cX4_doesDrive 8 (some .boolean) 4 wr_doesDrive [.ref qm, .int a0, .int a1, .int a2, .int a3, .int a4] σ0 (some (.int r.1)) r.2 := by
  refine m_of (by decide) rfl ?_
  intro p e s m args below meth c ls K hl
  have B51 : ∀ (k51 : MS → Int32 → Int32 → Int32 → Int32 → Int32 → Option (Int32 × MS)) (hk51 : (∀ (σ : MS) (x1 : Int32) (x2 : Int32) (x3 : Int32) (x4 : Int32) (x7 : Int32) (ls : Array Slot), k51 σ x1 x2 x3 x4 x7 = some r → ag wr_doesDrive σ0 σ → lq ls 8 [(0, some (.ref qm)), (1, some (.int x1)), (2, some (.int x2)), (3, some (.int x3)), (4, some (.int x4)), (7, some (.int x7))] → ZM p l e 4 s m args below meth c D cz qm wr_doesDrive σ0 (some (.int r.1)) r.2 σ (F0 m 51 ls []))) (σ : MS) (x1 : Int32) (x2 : Int32) (x3 : Int32) (x4 : Int32) (x7 : Int32) (ls : Array Slot), M_doesDrive_B51 G k51 σ x1 x2 x3 x4 x7 = some r → ag wr_doesDrive σ0 σ → lq ls 8 [(0, some (.ref qm)), (1, some (.int x1)), (2, some (.int x2)), (3, some (.int x3)), (4, some (.int x4)), (7, some (.int x7))] → ZM p l e 4 s m args below meth c D cz qm wr_doesDrive σ0 (some (.int r.1)) r.2 σ (F0 m 51 ls []) := by
    intro k51 hk51 σ x1 x2 x3 x4 x7 ls hF ha hl
    unfold M_doesDrive_B51 at hF
    refine g_iload (i := 7) K hl dX4_doesDrive_51 rfl ?_
    refine g_iload (i := 4) K hl dX4_doesDrive_53 rfl ?_
    refine g_icmp_ge (tgt := 95) K hF dX4_doesDrive_55 (by decide) (fun hF => ?_) (fun hF => ?_)
    · refine g_aload_n (i := 0) K hl dX4_doesDrive_95 rfl rfl ?_
      refine g_iload_n (i := 2) K hl dX4_doesDrive_96 rfl rfl ?_
      refine g_iload_n (i := 3) K hl dX4_doesDrive_97 rfl rfl ?_
      refine g_iconst K dX4_doesDrive_98 lc_0 ?_
      refine m_callVW K hl hF ha rfl (fun t h => w_canTry G _ _ _ _ t h) rfl cp_canTry q2031 rfl rfl rfl rfl rfl dX4_doesDrive_99 (fun t2 σ1 hF ha => ?_)
      obtain ⟨hz, hF⟩ := bzI_i hF
      exact m_zretW K hF hz ha dX4_doesDrive_102
    · refine g_aload_n (i := 0) K hl dX4_doesDrive_58 rfl rfl ?_
      refine g_iload_n (i := 1) K hl dX4_doesDrive_59 rfl rfl ?_
      refine g_aload_n (i := 0) K hl dX4_doesDrive_60 rfl rfl ?_
      refine mget_82 K dX4_doesDrive_61 ?_
      refine g_iload (i := 7) K hl dX4_doesDrive_64 rfl ?_
      refine mld_82 K hF dX4_doesDrive_66 (fun t3 hF => ?_)
      refine g_iconst K dX4_doesDrive_67 lc_0 ?_
      refine m_callVW K hl hF ha rfl (fun t h => w_canTry G _ _ _ _ t h) rfl cp_canTry q2031 rfl rfl rfl rfl rfl dX4_doesDrive_68 (fun t5 σ4 hF ha => ?_)
      refine g_if_ne (tgt := 76) K hF dX4_doesDrive_71 (by decide) (fun hF => ?_) (fun hF => ?_)
      · refine g_aload_n (i := 0) K hl dX4_doesDrive_76 rfl rfl ?_
        refine g_iload_n (i := 1) K hl dX4_doesDrive_77 rfl rfl ?_
        refine g_aload_n (i := 0) K hl dX4_doesDrive_78 rfl rfl ?_
        refine mget_82 K dX4_doesDrive_79 ?_
        refine g_iload (i := 7) K hl dX4_doesDrive_82 rfl ?_
        refine mld_82 K hF dX4_doesDrive_84 (fun t6 hF => ?_)
        refine g_iconst K dX4_doesDrive_85 lc_0 ?_
        refine m_callVV K hl hF ha rfl (fun t h => w_miss G _ _ _ _ t h) rfl cp_miss q2117 rfl rfl rfl rfl rfl dX4_doesDrive_86 (fun σ7 hF ha => ?_)
        refine g_iinc (i := 7) K hl dX4_doesDrive_89 rfl lc_1 rfl rfl (fun ls hl => ?_)
        refine g_goto (tgt := 51) K dX4_doesDrive_92 (by decide) ?_
        exact hk51 _ _ _ _ _ _ ls hF ha (lq_sub hl rfl)
      · refine g_iconst K dX4_doesDrive_74 lc_0 ?_
        exact m_zretW K hF (Or.inl rfl) ha dX4_doesDrive_75
  have L51 : ∀  (n : Nat) (σ : MS) (x1 : Int32) (x2 : Int32) (x3 : Int32) (x4 : Int32) (x7 : Int32) (ls : Array Slot), M_doesDrive_L51 G  n σ x1 x2 x3 x4 x7 = some r → ag wr_doesDrive σ0 σ → lq ls 8 [(0, some (.ref qm)), (1, some (.int x1)), (2, some (.int x2)), (3, some (.int x3)), (4, some (.int x4)), (7, some (.int x7))] → ZM p l e 4 s m args below meth c D cz qm wr_doesDrive σ0 (some (.int r.1)) r.2 σ (F0 m 51 ls []) := by
    intro  n
    induction n with
    | zero => intro σ x1 x2 x3 x4 x7 ls hF; exact absurd hF (fun h => by cases h)
    | succ n ih => intro σ x1 x2 x3 x4 x7 ls hF ha hl; exact B51  _ ih _ _ _ _ _ _ ls hF ha hl
  have B14 : ∀ (k14 : MS → Int32 → Int32 → Int32 → Int32 → Int32 → Int32 → Option (Int32 × MS)) (hk14 : (∀ (σ : MS) (x1 : Int32) (x2 : Int32) (x3 : Int32) (x4 : Int32) (x6 : Int32) (x7 : Int32) (ls : Array Slot), k14 σ x1 x2 x3 x4 x6 x7 = some r → ag wr_doesDrive σ0 σ → lq ls 8 [(0, some (.ref qm)), (1, some (.int x1)), (2, some (.int x2)), (3, some (.int x3)), (4, some (.int x4)), (6, some (.int x6)), (7, some (.int x7))] → ZM p l e 4 s m args below meth c D cz qm wr_doesDrive σ0 (some (.int r.1)) r.2 σ (F0 m 14 ls []))) (σ : MS) (x1 : Int32) (x2 : Int32) (x3 : Int32) (x4 : Int32) (x6 : Int32) (x7 : Int32) (ls : Array Slot), M_doesDrive_B14 G k14 σ x1 x2 x3 x4 x6 x7 = some r → ag wr_doesDrive σ0 σ → lq ls 8 [(0, some (.ref qm)), (1, some (.int x1)), (2, some (.int x2)), (3, some (.int x3)), (4, some (.int x4)), (6, some (.int x6)), (7, some (.int x7))] → ZM p l e 4 s m args below meth c D cz qm wr_doesDrive σ0 (some (.int r.1)) r.2 σ (F0 m 14 ls []) := by
    intro k14 hk14 σ x1 x2 x3 x4 x6 x7 ls hF ha hl
    unfold M_doesDrive_B14 at hF
    refine g_iload (i := 7) K hl dX4_doesDrive_14 rfl ?_
    refine g_if_lt (tgt := 48) K hF dX4_doesDrive_16 (by decide) (fun hF => ?_) (fun hF => ?_)
    · refine g_iconst K dX4_doesDrive_48 lc_0 ?_
      refine g_istore (i := 7) K hl dX4_doesDrive_49 rfl rfl (fun ls hl => ?_)
      exact L51  G _ _ _ _ _ _ ls hF ha (lq_sub hl rfl)
    · refine g_aload_n (i := 0) K hl dX4_doesDrive_19 rfl rfl ?_
      refine mget_82 K dX4_doesDrive_20 ?_
      refine g_iload (i := 7) K hl dX4_doesDrive_23 rfl ?_
      refine g_iload (i := 6) K hl dX4_doesDrive_25 rfl ?_
      refine g_aload_n (i := 0) K hl dX4_doesDrive_27 rfl rfl ?_
      refine mget_60 K dX4_doesDrive_28 ?_
      refine g_iremT K hF dX4_doesDrive_31 (fun t1 hF => ?_)
      refine mst_82 K hF ha rfl dX4_doesDrive_32 (fun σ2 hF ha => ?_)
      refine g_iload (i := 6) K hl dX4_doesDrive_33 rfl ?_
      refine g_aload_n (i := 0) K hl dX4_doesDrive_35 rfl rfl ?_
      refine mget_60 K dX4_doesDrive_36 ?_
      refine g_idivT K hF dX4_doesDrive_39 (fun t3 hF => ?_)
      refine g_istore (i := 6) K hl dX4_doesDrive_40 rfl rfl (fun ls hl => ?_)
      refine g_iinc (i := 7) K hl dX4_doesDrive_42 rfl lc_m1 rfl rfl (fun ls hl => ?_)
      refine g_goto (tgt := 14) K dX4_doesDrive_45 (by decide) ?_
      exact hk14 _ _ _ _ _ _ _ ls hF ha (lq_sub hl rfl)
  have L14 : ∀  (n : Nat) (σ : MS) (x1 : Int32) (x2 : Int32) (x3 : Int32) (x4 : Int32) (x6 : Int32) (x7 : Int32) (ls : Array Slot), M_doesDrive_L14 G  n σ x1 x2 x3 x4 x6 x7 = some r → ag wr_doesDrive σ0 σ → lq ls 8 [(0, some (.ref qm)), (1, some (.int x1)), (2, some (.int x2)), (3, some (.int x3)), (4, some (.int x4)), (6, some (.int x6)), (7, some (.int x7))] → ZM p l e 4 s m args below meth c D cz qm wr_doesDrive σ0 (some (.int r.1)) r.2 σ (F0 m 14 ls []) := by
    intro  n
    induction n with
    | zero => intro σ x1 x2 x3 x4 x6 x7 ls hF; exact absurd hF (fun h => by cases h)
    | succ n ih => intro σ x1 x2 x3 x4 x6 x7 ls hF ha hl; exact B14  _ ih _ _ _ _ _ _ _ ls hF ha hl
  have ha : ag wr_doesDrive σ0 σ0 := ag.rf
  unfold M_doesDrive at hF
  refine g_aload_n (i := 0) K hl dX4_doesDrive_0 rfl rfl ?_
  refine m_callVV K hl hF ha rfl (fun t h => w_load G _  t h) rfl cp_load q2027 rfl rfl rfl rfl rfl dX4_doesDrive_1 (fun σ1 hF ha => ?_)
  refine g_iload (i := 5) K hl dX4_doesDrive_4 rfl ?_
  refine g_istore (i := 6) K hl dX4_doesDrive_6 rfl rfl (fun ls hl => ?_)
  refine g_iload (i := 4) K hl dX4_doesDrive_8 rfl ?_
  refine g_iconst K dX4_doesDrive_10 lc_1 ?_
  refine g_isub K dX4_doesDrive_11 ?_
  refine g_istore (i := 7) K hl dX4_doesDrive_12 rfl rfl (fun ls hl => ?_)
  exact L14  G _ _ _ _ _ _ _ ls hF ha (lq_sub hl rfl)

theorem cp_drives : cpV yX4_drives cX4_drives 8 (some .int) 3 := ⟨q2219, q2220, q152, q2221, by decide +kernel⟩
set_option maxHeartbeats 4000000 in
set_option maxRecDepth 100000 in
theorem w_drives {l : Launch} {D : va_G} {cz : Nat → ClassId} {qm : Nat} (G : Nat) (σ0 : MS) (a0 : Int32) (a1 : Int32) (a2 : Int32) (r : (Int32 × MS)) (hF : M_drives G σ0 a0 a1 a2 = some r) : mMet l D cz qm yX4_drives cX4_drives 8 (some .int) 5 wr_drives [.ref qm, .int a0, .int a1, .int a2] σ0 (some (.int r.1)) r.2 := by
  refine m_of (by decide) rfl ?_
  intro p e s m args below meth c ls K hl
  have B91 : ∀ (k91 : MS → Int32 → Int32 → Option (Int32 × MS)) (hk91 : (∀ (σ : MS) (x5 : Int32) (x7 : Int32) (ls : Array Slot), k91 σ x5 x7 = some r → ag wr_drives σ0 σ → lq ls 8 [(0, some (.ref qm)), (5, some (.int x5)), (7, some (.int x7))] → ZM p l e 5 s m args below meth c D cz qm wr_drives σ0 (some (.int r.1)) r.2 σ (F0 m 91 ls []))) (σ : MS) (x5 : Int32) (x7 : Int32) (ls : Array Slot), M_drives_B91 G k91 σ x5 x7 = some r → ag wr_drives σ0 σ → lq ls 8 [(0, some (.ref qm)), (5, some (.int x5)), (7, some (.int x7))] → ZM p l e 5 s m args below meth c D cz qm wr_drives σ0 (some (.int r.1)) r.2 σ (F0 m 91 ls []) := by
    intro k91 hk91 σ x5 x7 ls hF ha hl
    unfold M_drives_B91 at hF
    refine g_iload (i := 7) K hl dX4_drives_91 rfl ?_
    refine g_iload (i := 5) K hl dX4_drives_93 rfl ?_
    refine g_icmp_ge (tgt := 118) K hF dX4_drives_95 (by decide) (fun hF => ?_) (fun hF => ?_)
    · refine g_aload_n (i := 0) K hl dX4_drives_118 rfl rfl ?_
      refine g_iload (i := 5) K hl dX4_drives_119 rfl ?_
      refine mput_85 K hF ha rfl dX4_drives_121 (fun σ1 hF ha => ?_)
      refine g_iload (i := 5) K hl dX4_drives_124 rfl ?_
      exact m_iretW K hF ha dX4_drives_126
    · refine g_aload_n (i := 0) K hl dX4_drives_98 rfl rfl ?_
      refine mget_83 K dX4_drives_99 ?_
      refine g_iload (i := 7) K hl dX4_drives_102 rfl ?_
      refine g_aload_n (i := 0) K hl dX4_drives_104 rfl rfl ?_
      refine mget_82 K dX4_drives_105 ?_
      refine g_iload (i := 7) K hl dX4_drives_108 rfl ?_
      refine mld_82 K hF dX4_drives_110 (fun t2 hF => ?_)
      refine mst_83 K hF ha rfl dX4_drives_111 (fun σ3 hF ha => ?_)
      refine g_iinc (i := 7) K hl dX4_drives_112 rfl lc_1 rfl rfl (fun ls hl => ?_)
      refine g_goto (tgt := 91) K dX4_drives_115 (by decide) ?_
      exact hk91 _ _ _ ls hF ha (lq_sub hl rfl)
  have L91 : ∀  (n : Nat) (σ : MS) (x5 : Int32) (x7 : Int32) (ls : Array Slot), M_drives_L91 G  n σ x5 x7 = some r → ag wr_drives σ0 σ → lq ls 8 [(0, some (.ref qm)), (5, some (.int x5)), (7, some (.int x7))] → ZM p l e 5 s m args below meth c D cz qm wr_drives σ0 (some (.int r.1)) r.2 σ (F0 m 91 ls []) := by
    intro  n
    induction n with
    | zero => intro σ x5 x7 ls hF; exact absurd hF (fun h => by cases h)
    | succ n ih => intro σ x5 x7 ls hF ha hl; exact B91  _ ih _ _ _ ls hF ha hl
  have B64 : ∀ (k55 : MS → Int32 → Int32 → Int32 → Int32 → Int32 → Option (Int32 × MS)) (hk55 : (∀ (σ : MS) (x1 : Int32) (x2 : Int32) (x3 : Int32) (x4 : Int32) (x5 : Int32) (ls : Array Slot), k55 σ x1 x2 x3 x4 x5 = some r → ag wr_drives σ0 σ → lq ls 8 [(0, some (.ref qm)), (1, some (.int x1)), (2, some (.int x2)), (3, some (.int x3)), (4, some (.int x4)), (5, some (.int x5))] → ZM p l e 5 s m args below meth c D cz qm wr_drives σ0 (some (.int r.1)) r.2 σ (F0 m 55 ls []))) (k64 : MS → Int32 → Int32 → Int32 → Int32 → Int32 → Int32 → Option (Int32 × MS)) (hk64 : (∀ (σ : MS) (x1 : Int32) (x2 : Int32) (x3 : Int32) (x4 : Int32) (x5 : Int32) (x6 : Int32) (ls : Array Slot), k64 σ x1 x2 x3 x4 x5 x6 = some r → ag wr_drives σ0 σ → lq ls 8 [(0, some (.ref qm)), (1, some (.int x1)), (2, some (.int x2)), (3, some (.int x3)), (4, some (.int x4)), (5, some (.int x5)), (6, some (.int x6))] → ZM p l e 5 s m args below meth c D cz qm wr_drives σ0 (some (.int r.1)) r.2 σ (F0 m 64 ls []))) (σ : MS) (x1 : Int32) (x2 : Int32) (x3 : Int32) (x4 : Int32) (x5 : Int32) (x6 : Int32) (ls : Array Slot), M_drives_B64 G k55 k64 σ x1 x2 x3 x4 x5 x6 = some r → ag wr_drives σ0 σ → lq ls 8 [(0, some (.ref qm)), (1, some (.int x1)), (2, some (.int x2)), (3, some (.int x3)), (4, some (.int x4)), (5, some (.int x5)), (6, some (.int x6))] → ZM p l e 5 s m args below meth c D cz qm wr_drives σ0 (some (.int r.1)) r.2 σ (F0 m 64 ls []) := by
    intro k55 hk55 k64 hk64 σ x1 x2 x3 x4 x5 x6 ls hF ha hl
    unfold M_drives_B64 at hF
    refine g_iload (i := 6) K hl dX4_drives_64 rfl ?_
    refine g_iload (i := 4) K hl dX4_drives_66 rfl ?_
    refine g_icmp_ge (tgt := 133) K hF dX4_drives_68 (by decide) (fun hF => ?_) (fun hF => ?_)
    · refine g_iload (i := 4) K hl dX4_drives_133 rfl ?_
      refine g_aload_n (i := 0) K hl dX4_drives_135 rfl rfl ?_
      refine mget_60 K dX4_drives_136 ?_
      refine g_imul K dX4_drives_139 ?_
      refine g_istore (i := 4) K hl dX4_drives_140 rfl rfl (fun ls hl => ?_)
      refine g_iinc (i := 5) K hl dX4_drives_142 rfl lc_1 rfl rfl (fun ls hl => ?_)
      refine g_goto (tgt := 55) K dX4_drives_145 (by decide) ?_
      exact hk55 _ _ _ _ _ _ ls hF ha (lq_sub hl rfl)
    · refine g_aload_n (i := 0) K hl dX4_drives_71 rfl rfl ?_
      refine g_iload_n (i := 1) K hl dX4_drives_72 rfl rfl ?_
      refine g_iload_n (i := 2) K hl dX4_drives_73 rfl rfl ?_
      refine g_iload_n (i := 3) K hl dX4_drives_74 rfl rfl ?_
      refine g_iload (i := 5) K hl dX4_drives_75 rfl ?_
      refine g_iload (i := 6) K hl dX4_drives_77 rfl ?_
      refine m_callVW K hl hF ha rfl (fun t h => w_doesDrive G _ _ _ _ _ _ t h) rfl cp_doesDrive q2222 rfl rfl rfl rfl rfl dX4_drives_79 (fun t2 σ1 hF ha => ?_)
      refine g_if_ne (tgt := 88) K hF dX4_drives_82 (by decide) (fun hF => ?_) (fun hF => ?_)
      · refine g_iconst K dX4_drives_88 lc_0 ?_
        refine g_istore (i := 7) K hl dX4_drives_89 rfl rfl (fun ls hl => ?_)
        exact L91  G _ _ _ ls hF ha (lq_sub hl rfl)
      · refine g_goto (tgt := 127) K dX4_drives_85 (by decide) ?_
        refine g_iinc (i := 6) K hl dX4_drives_127 rfl lc_1 rfl rfl (fun ls hl => ?_)
        refine g_goto (tgt := 64) K dX4_drives_130 (by decide) ?_
        exact hk64 _ _ _ _ _ _ _ ls hF ha (lq_sub hl rfl)
  have L64 : ∀ (k55 : MS → Int32 → Int32 → Int32 → Int32 → Int32 → Option (Int32 × MS)) (hk55 : (∀ (σ : MS) (x1 : Int32) (x2 : Int32) (x3 : Int32) (x4 : Int32) (x5 : Int32) (ls : Array Slot), k55 σ x1 x2 x3 x4 x5 = some r → ag wr_drives σ0 σ → lq ls 8 [(0, some (.ref qm)), (1, some (.int x1)), (2, some (.int x2)), (3, some (.int x3)), (4, some (.int x4)), (5, some (.int x5))] → ZM p l e 5 s m args below meth c D cz qm wr_drives σ0 (some (.int r.1)) r.2 σ (F0 m 55 ls []))) (n : Nat) (σ : MS) (x1 : Int32) (x2 : Int32) (x3 : Int32) (x4 : Int32) (x5 : Int32) (x6 : Int32) (ls : Array Slot), M_drives_L64 G k55 n σ x1 x2 x3 x4 x5 x6 = some r → ag wr_drives σ0 σ → lq ls 8 [(0, some (.ref qm)), (1, some (.int x1)), (2, some (.int x2)), (3, some (.int x3)), (4, some (.int x4)), (5, some (.int x5)), (6, some (.int x6))] → ZM p l e 5 s m args below meth c D cz qm wr_drives σ0 (some (.int r.1)) r.2 σ (F0 m 64 ls []) := by
    intro k55 hk55 n
    induction n with
    | zero => intro σ x1 x2 x3 x4 x5 x6 ls hF; exact absurd hF (fun h => by cases h)
    | succ n ih => intro σ x1 x2 x3 x4 x5 x6 ls hF ha hl; exact B64 k55 hk55 _ ih _ _ _ _ _ _ _ ls hF ha hl
  have B55 : ∀ (k55 : MS → Int32 → Int32 → Int32 → Int32 → Int32 → Option (Int32 × MS)) (hk55 : (∀ (σ : MS) (x1 : Int32) (x2 : Int32) (x3 : Int32) (x4 : Int32) (x5 : Int32) (ls : Array Slot), k55 σ x1 x2 x3 x4 x5 = some r → ag wr_drives σ0 σ → lq ls 8 [(0, some (.ref qm)), (1, some (.int x1)), (2, some (.int x2)), (3, some (.int x3)), (4, some (.int x4)), (5, some (.int x5))] → ZM p l e 5 s m args below meth c D cz qm wr_drives σ0 (some (.int r.1)) r.2 σ (F0 m 55 ls []))) (σ : MS) (x1 : Int32) (x2 : Int32) (x3 : Int32) (x4 : Int32) (x5 : Int32) (ls : Array Slot), M_drives_B55 G k55 σ x1 x2 x3 x4 x5 = some r → ag wr_drives σ0 σ → lq ls 8 [(0, some (.ref qm)), (1, some (.int x1)), (2, some (.int x2)), (3, some (.int x3)), (4, some (.int x4)), (5, some (.int x5))] → ZM p l e 5 s m args below meth c D cz qm wr_drives σ0 (some (.int r.1)) r.2 σ (F0 m 55 ls []) := by
    intro k55 hk55 σ x1 x2 x3 x4 x5 ls hF ha hl
    unfold M_drives_B55 at hF
    refine g_iload (i := 5) K hl dX4_drives_55 rfl ?_
    refine g_iconst K dX4_drives_57 lc_4 ?_
    refine g_icmp_gt (tgt := 148) K hF dX4_drives_58 (by decide) (fun hF => ?_) (fun hF => ?_)
    · refine g_iconst K dX4_drives_148 lc_m1 ?_
      exact m_iretW K hF ha dX4_drives_149
    · refine g_iconst K dX4_drives_61 lc_0 ?_
      refine g_istore (i := 6) K hl dX4_drives_62 rfl rfl (fun ls hl => ?_)
      exact L64 k55 hk55 G _ _ _ _ _ _ _ ls hF ha (lq_sub hl rfl)
  have L55 : ∀  (n : Nat) (σ : MS) (x1 : Int32) (x2 : Int32) (x3 : Int32) (x4 : Int32) (x5 : Int32) (ls : Array Slot), M_drives_L55 G  n σ x1 x2 x3 x4 x5 = some r → ag wr_drives σ0 σ → lq ls 8 [(0, some (.ref qm)), (1, some (.int x1)), (2, some (.int x2)), (3, some (.int x3)), (4, some (.int x4)), (5, some (.int x5))] → ZM p l e 5 s m args below meth c D cz qm wr_drives σ0 (some (.int r.1)) r.2 σ (F0 m 55 ls []) := by
    intro  n
    induction n with
    | zero => intro σ x1 x2 x3 x4 x5 ls hF; exact absurd hF (fun h => by cases h)
    | succ n ih => intro σ x1 x2 x3 x4 x5 ls hF ha hl; exact B55  _ ih _ _ _ _ _ _ ls hF ha hl
  have ha : ag wr_drives σ0 σ0 := ag.rf
  unfold M_drives at hF
  refine g_aload_n (i := 0) K hl dX4_drives_0 rfl rfl ?_
  refine g_iconst K dX4_drives_1 lc_0 ?_
  refine mput_85 K hF ha rfl dX4_drives_2 (fun σ1 hF ha => ?_)
  refine g_aload_n (i := 0) K hl dX4_drives_5 rfl rfl ?_
  refine m_callVV K hl hF ha rfl (fun t h => w_load G _  t h) rfl cp_load q2027 rfl rfl rfl rfl rfl dX4_drives_6 (fun σ2 hF ha => ?_)
  refine g_aload_n (i := 0) K hl dX4_drives_9 rfl rfl ?_
  refine g_iload_n (i := 1) K hl dX4_drives_10 rfl rfl ?_
  refine m_callVP K hl hF (fun t h => w_isBobber _ _ t h) rfl cp_isBobber q2015 rfl rfl rfl rfl rfl dX4_drives_11 (fun t3 hF => ?_)
  refine g_if_eq (tgt := 46) K hF dX4_drives_14 (by decide) (fun hF => ?_) (fun hF => ?_)
  · refine g_bipush K dX4_drives_46 lb_m2 ?_
    exact m_iretW K hF ha dX4_drives_48
  · refine g_aload_n (i := 0) K hl dX4_drives_17 rfl rfl ?_
    refine g_iload_n (i := 2) K hl dX4_drives_18 rfl rfl ?_
    refine m_callVP K hl hF (fun t h => w_isBobber _ _ t h) rfl cp_isBobber q2015 rfl rfl rfl rfl rfl dX4_drives_19 (fun t4 hF => ?_)
    refine g_if_eq (tgt := 46) K hF dX4_drives_22 (by decide) (fun hF => ?_) (fun hF => ?_)
    · refine g_bipush K dX4_drives_46 lb_m2 ?_
      exact m_iretW K hF ha dX4_drives_48
    · refine g_iload_n (i := 1) K hl dX4_drives_25 rfl rfl ?_
      refine g_iload_n (i := 2) K hl dX4_drives_26 rfl rfl ?_
      refine g_icmp_eq (tgt := 46) K hF dX4_drives_27 (by decide) (fun hF => ?_) (fun hF => ?_)
      · refine g_bipush K dX4_drives_46 lb_m2 ?_
        exact m_iretW K hF ha dX4_drives_48
      · refine g_aload_n (i := 0) K hl dX4_drives_30 rfl rfl ?_
        refine g_iload_n (i := 3) K hl dX4_drives_31 rfl rfl ?_
        refine m_callVP K hl hF (fun t h => w_isApple _ _ t h) rfl cp_isApple q2004 rfl rfl rfl rfl rfl dX4_drives_32 (fun t5 hF => ?_)
        refine g_if_eq (tgt := 46) K hF dX4_drives_35 (by decide) (fun hF => ?_) (fun hF => ?_)
        · refine g_bipush K dX4_drives_46 lb_m2 ?_
          exact m_iretW K hF ha dX4_drives_48
        · refine g_aload_n (i := 0) K hl dX4_drives_38 rfl rfl ?_
          refine g_iload_n (i := 3) K hl dX4_drives_39 rfl rfl ?_
          refine m_callVP K hl hF (fun t h => w_isAfloat _ _ t h) rfl cp_isAfloat q2035 rfl rfl rfl rfl rfl dX4_drives_40 (fun t6 hF => ?_)
          refine g_if_ne (tgt := 49) K hF dX4_drives_43 (by decide) (fun hF => ?_) (fun hF => ?_)
          · refine g_iconst K dX4_drives_49 lc_1 ?_
            refine g_istore (i := 4) K hl dX4_drives_50 rfl rfl (fun ls hl => ?_)
            refine g_iconst K dX4_drives_52 lc_0 ?_
            refine g_istore (i := 5) K hl dX4_drives_53 rfl rfl (fun ls hl => ?_)
            exact L55  G _ _ _ _ _ _ ls hF ha (lq_sub hl rfl)
          · refine g_bipush K dX4_drives_46 lb_m2 ?_
            exact m_iretW K hF ha dX4_drives_48

theorem cp_goneOf : cpV yX4_goneOf cX4_goneOf 4 (some .int) 1 := ⟨q2236, qs134, q152, q2237, by decide +kernel⟩
set_option maxHeartbeats 4000000 in
set_option maxRecDepth 100000 in
theorem w_goneOf {l : Launch} {D : va_G} {cz : Nat → ClassId} {qm : Nat} (G : Nat) (σ0 : MS) (a0 : Int32) (r : (Int32 × MS)) (hF : M_goneOf G σ0 a0 = some r) : mMet l D cz qm yX4_goneOf cX4_goneOf 4 (some .int) 7 wr_goneOf [.ref qm, .int a0] σ0 (some (.int r.1)) r.2 := by
  refine m_of (by decide) rfl ?_
  intro p e s m args below meth c ls K hl
  have B67 : ∀ (k59 : MS → Int32 → Option (Int32 × MS)) (hk59 : (∀ (σ : MS) (x2 : Int32) (ls : Array Slot), k59 σ x2 = some r → ag wr_goneOf σ0 σ → lq ls 4 [(0, some (.ref qm)), (2, some (.int x2))] → ZM p l e 7 s m args below meth c D cz qm wr_goneOf σ0 (some (.int r.1)) r.2 σ (F0 m 59 ls []))) (k67 : MS → Int32 → Int32 → Option (Int32 × MS)) (hk67 : (∀ (σ : MS) (x2 : Int32) (x3 : Int32) (ls : Array Slot), k67 σ x2 x3 = some r → ag wr_goneOf σ0 σ → lq ls 4 [(0, some (.ref qm)), (2, some (.int x2)), (3, some (.int x3))] → ZM p l e 7 s m args below meth c D cz qm wr_goneOf σ0 (some (.int r.1)) r.2 σ (F0 m 67 ls []))) (σ : MS) (x2 : Int32) (x3 : Int32) (ls : Array Slot), M_goneOf_B67 G k59 k67 σ x2 x3 = some r → ag wr_goneOf σ0 σ → lq ls 4 [(0, some (.ref qm)), (2, some (.int x2)), (3, some (.int x3))] → ZM p l e 7 s m args below meth c D cz qm wr_goneOf σ0 (some (.int r.1)) r.2 σ (F0 m 67 ls []) := by
    intro k59 hk59 k67 hk67 σ x2 x3 ls hF ha hl
    unfold M_goneOf_B67 at hF
    refine g_iload_n (i := 3) K hl dX4_goneOf_67 rfl rfl ?_
    refine g_aload_n (i := 0) K hl dX4_goneOf_68 rfl rfl ?_
    refine mget_61 K dX4_goneOf_69 ?_
    refine g_icmp_ge (tgt := 93) K hF dX4_goneOf_72 (by decide) (fun hF => ?_) (fun hF => ?_)
    · refine g_aload_n (i := 0) K hl dX4_goneOf_93 rfl rfl ?_
      refine m_callVP K hl hF (fun t h => w_afloatAll G _  t h) rfl cp_afloatAll q2238 rfl rfl rfl rfl rfl dX4_goneOf_94 (fun t1 hF => ?_)
      refine g_if_ne (tgt := 102) K hF dX4_goneOf_97 (by decide) (fun hF => ?_) (fun hF => ?_)
      · refine g_iinc (i := 2) K hl dX4_goneOf_102 rfl lc_1 rfl rfl (fun ls hl => ?_)
        refine g_goto (tgt := 59) K dX4_goneOf_105 (by decide) ?_
        exact hk59 _ _ ls hF ha (lq_sub hl rfl)
      · refine g_iload_n (i := 2) K hl dX4_goneOf_100 rfl rfl ?_
        exact m_iretW K hF ha dX4_goneOf_101
    · refine g_aload_n (i := 0) K hl dX4_goneOf_75 rfl rfl ?_
      refine g_iload_n (i := 3) K hl dX4_goneOf_76 rfl rfl ?_
      refine g_aload_n (i := 0) K hl dX4_goneOf_77 rfl rfl ?_
      refine mget_47 K dX4_goneOf_78 ?_
      refine g_iload_n (i := 3) K hl dX4_goneOf_81 rfl rfl ?_
      refine mld_47 K hF dX4_goneOf_82 (fun t2 hF => ?_)
      refine m_callVW K hl hF ha rfl (fun t h => w_actsBy G _ _ _ t h) rfl cp_actsBy q2153 rfl rfl rfl rfl rfl dX4_goneOf_83 (fun t4 σ3 hF ha => ?_)
      refine g_pop K dX4_goneOf_86 rfl ?_
      refine g_iinc (i := 3) K hl dX4_goneOf_87 rfl lc_1 rfl rfl (fun ls hl => ?_)
      refine g_goto (tgt := 67) K dX4_goneOf_90 (by decide) ?_
      exact hk67 _ _ _ ls hF ha (lq_sub hl rfl)
  have L67 : ∀ (k59 : MS → Int32 → Option (Int32 × MS)) (hk59 : (∀ (σ : MS) (x2 : Int32) (ls : Array Slot), k59 σ x2 = some r → ag wr_goneOf σ0 σ → lq ls 4 [(0, some (.ref qm)), (2, some (.int x2))] → ZM p l e 7 s m args below meth c D cz qm wr_goneOf σ0 (some (.int r.1)) r.2 σ (F0 m 59 ls []))) (n : Nat) (σ : MS) (x2 : Int32) (x3 : Int32) (ls : Array Slot), M_goneOf_L67 G k59 n σ x2 x3 = some r → ag wr_goneOf σ0 σ → lq ls 4 [(0, some (.ref qm)), (2, some (.int x2)), (3, some (.int x3))] → ZM p l e 7 s m args below meth c D cz qm wr_goneOf σ0 (some (.int r.1)) r.2 σ (F0 m 67 ls []) := by
    intro k59 hk59 n
    induction n with
    | zero => intro σ x2 x3 ls hF; exact absurd hF (fun h => by cases h)
    | succ n ih => intro σ x2 x3 ls hF ha hl; exact B67 k59 hk59 _ ih _ _ _ ls hF ha hl
  have B59 : ∀ (k59 : MS → Int32 → Option (Int32 × MS)) (hk59 : (∀ (σ : MS) (x2 : Int32) (ls : Array Slot), k59 σ x2 = some r → ag wr_goneOf σ0 σ → lq ls 4 [(0, some (.ref qm)), (2, some (.int x2))] → ZM p l e 7 s m args below meth c D cz qm wr_goneOf σ0 (some (.int r.1)) r.2 σ (F0 m 59 ls []))) (σ : MS) (x2 : Int32) (ls : Array Slot), M_goneOf_B59 G k59 σ x2 = some r → ag wr_goneOf σ0 σ → lq ls 4 [(0, some (.ref qm)), (2, some (.int x2))] → ZM p l e 7 s m args below meth c D cz qm wr_goneOf σ0 (some (.int r.1)) r.2 σ (F0 m 59 ls []) := by
    intro k59 hk59 σ x2 ls hF ha hl
    unfold M_goneOf_B59 at hF
    refine g_iload_n (i := 2) K hl dX4_goneOf_59 rfl rfl ?_
    refine g_bipush K dX4_goneOf_60 lb_60 ?_
    refine g_icmp_gt (tgt := 108) K hF dX4_goneOf_62 (by decide) (fun hF => ?_) (fun hF => ?_)
    · refine g_iconst K dX4_goneOf_108 lc_m1 ?_
      exact m_iretW K hF ha dX4_goneOf_109
    · refine g_iconst K dX4_goneOf_65 lc_0 ?_
      refine g_istore_n (i := 3) K hl dX4_goneOf_66 rfl rfl rfl (fun ls hl => ?_)
      exact L67 k59 hk59 G _ _ _ ls hF ha (lq_sub hl rfl)
  have L59 : ∀  (n : Nat) (σ : MS) (x2 : Int32) (ls : Array Slot), M_goneOf_L59 G  n σ x2 = some r → ag wr_goneOf σ0 σ → lq ls 4 [(0, some (.ref qm)), (2, some (.int x2))] → ZM p l e 7 s m args below meth c D cz qm wr_goneOf σ0 (some (.int r.1)) r.2 σ (F0 m 59 ls []) := by
    intro  n
    induction n with
    | zero => intro σ x2 ls hF; exact absurd hF (fun h => by cases h)
    | succ n ih => intro σ x2 ls hF ha hl; exact B59  _ ih _ _ ls hF ha hl
  have B6 : ∀ (k6 : MS → Int32 → Int32 → Option (Int32 × MS)) (hk6 : (∀ (σ : MS) (x1 : Int32) (x2 : Int32) (ls : Array Slot), k6 σ x1 x2 = some r → ag wr_goneOf σ0 σ → lq ls 4 [(0, some (.ref qm)), (1, some (.int x1)), (2, some (.int x2))] → ZM p l e 7 s m args below meth c D cz qm wr_goneOf σ0 (some (.int r.1)) r.2 σ (F0 m 6 ls []))) (σ : MS) (x1 : Int32) (x2 : Int32) (ls : Array Slot), M_goneOf_B6 G k6 σ x1 x2 = some r → ag wr_goneOf σ0 σ → lq ls 4 [(0, some (.ref qm)), (1, some (.int x1)), (2, some (.int x2))] → ZM p l e 7 s m args below meth c D cz qm wr_goneOf σ0 (some (.int r.1)) r.2 σ (F0 m 6 ls []) := by
    intro k6 hk6 σ x1 x2 ls hF ha hl
    unfold M_goneOf_B6 at hF
    refine g_iload_n (i := 2) K hl dX4_goneOf_6 rfl rfl ?_
    refine g_aload_n (i := 0) K hl dX4_goneOf_7 rfl rfl ?_
    refine mget_60 K dX4_goneOf_8 ?_
    refine g_icmp_ge (tgt := 48) K hF dX4_goneOf_11 (by decide) (fun hF => ?_) (fun hF => ?_)
    · refine g_aload_n (i := 0) K hl dX4_goneOf_48 rfl rfl ?_
      refine m_callVP K hl hF (fun t h => w_afloatAll G _  t h) rfl cp_afloatAll q2238 rfl rfl rfl rfl rfl dX4_goneOf_49 (fun t1 hF => ?_)
      refine g_if_ne (tgt := 57) K hF dX4_goneOf_52 (by decide) (fun hF => ?_) (fun hF => ?_)
      · refine g_iconst K dX4_goneOf_57 lc_1 ?_
        refine g_istore_n (i := 2) K hl dX4_goneOf_58 rfl rfl rfl (fun ls hl => ?_)
        exact L59  G _ _ ls hF ha (lq_sub hl rfl)
      · refine g_iconst K dX4_goneOf_55 lc_0 ?_
        exact m_iretW K hF ha dX4_goneOf_56
    · refine g_iload_n (i := 1) K hl dX4_goneOf_14 rfl rfl ?_
      refine g_iload_n (i := 2) K hl dX4_goneOf_15 rfl rfl ?_
      refine g_ishr K dX4_goneOf_16 ?_
      refine g_iconst K dX4_goneOf_17 lc_1 ?_
      refine g_iand K dX4_goneOf_18 ?_
      refine g_if_ne (tgt := 42) K hF dX4_goneOf_19 (by decide) (fun hF => ?_) (fun hF => ?_)
      · refine g_iinc (i := 2) K hl dX4_goneOf_42 rfl lc_1 rfl rfl (fun ls hl => ?_)
        refine g_goto (tgt := 6) K dX4_goneOf_45 (by decide) ?_
        exact hk6 _ _ _ ls hF ha (lq_sub hl rfl)
      · refine g_aload_n (i := 0) K hl dX4_goneOf_22 rfl rfl ?_
        refine g_iload_n (i := 2) K hl dX4_goneOf_23 rfl rfl ?_
        refine m_callVP K hl hF (fun t h => w_isAfloat _ _ t h) rfl cp_isAfloat q2035 rfl rfl rfl rfl rfl dX4_goneOf_24 (fun t2 hF => ?_)
        refine g_if_eq (tgt := 42) K hF dX4_goneOf_27 (by decide) (fun hF => ?_) (fun hF => ?_)
        · refine g_iinc (i := 2) K hl dX4_goneOf_42 rfl lc_1 rfl rfl (fun ls hl => ?_)
          refine g_goto (tgt := 6) K dX4_goneOf_45 (by decide) ?_
          exact hk6 _ _ _ ls hF ha (lq_sub hl rfl)
        · refine g_aload_n (i := 0) K hl dX4_goneOf_30 rfl rfl ?_
          refine mget_66 K dX4_goneOf_31 ?_
          refine g_iconst K dX4_goneOf_34 lc_5 ?_
          refine g_iload_n (i := 2) K hl dX4_goneOf_35 rfl rfl ?_
          refine g_imul K dX4_goneOf_36 ?_
          refine g_iconst K dX4_goneOf_37 lc_2 ?_
          refine g_iadd K dX4_goneOf_38 ?_
          refine g_bipush K dX4_goneOf_39 lb_8 ?_
          refine mst_66 K hF ha rfl dX4_goneOf_41 (fun σ3 hF ha => ?_)
          refine g_iinc (i := 2) K hl dX4_goneOf_42 rfl lc_1 rfl rfl (fun ls hl => ?_)
          refine g_goto (tgt := 6) K dX4_goneOf_45 (by decide) ?_
          exact hk6 _ _ _ ls hF ha (lq_sub hl rfl)
  have L6 : ∀  (n : Nat) (σ : MS) (x1 : Int32) (x2 : Int32) (ls : Array Slot), M_goneOf_L6 G  n σ x1 x2 = some r → ag wr_goneOf σ0 σ → lq ls 4 [(0, some (.ref qm)), (1, some (.int x1)), (2, some (.int x2))] → ZM p l e 7 s m args below meth c D cz qm wr_goneOf σ0 (some (.int r.1)) r.2 σ (F0 m 6 ls []) := by
    intro  n
    induction n with
    | zero => intro σ x1 x2 ls hF; exact absurd hF (fun h => by cases h)
    | succ n ih => intro σ x1 x2 ls hF ha hl; exact B6  _ ih _ _ _ ls hF ha hl
  have ha : ag wr_goneOf σ0 σ0 := ag.rf
  unfold M_goneOf at hF
  refine g_aload_n (i := 0) K hl dX4_goneOf_0 rfl rfl ?_
  refine m_callVV K hl hF ha rfl (fun t h => w_load G _  t h) rfl cp_load q2027 rfl rfl rfl rfl rfl dX4_goneOf_1 (fun σ1 hF ha => ?_)
  refine g_iconst K dX4_goneOf_4 lc_0 ?_
  refine g_istore_n (i := 2) K hl dX4_goneOf_5 rfl rfl rfl (fun ls hl => ?_)
  exact L6  G _ _ _ ls hF ha (lq_sub hl rfl)

theorem cp_afloatSet : cpV yX4_afloatSet cX4_afloatSet 3 (some .int) 0 := ⟨q2232, qs133, q152, q2233, by decide +kernel⟩
set_option maxHeartbeats 4000000 in
set_option maxRecDepth 100000 in
theorem w_afloatSet {l : Launch} {D : va_G} {cz : Nat → ClassId} {qm : Nat} (G : Nat) (σ0 : MS)  (r : (Int32 × MS)) (hF : M_afloatSet G σ0 = some r) : mMet l D cz qm yX4_afloatSet cX4_afloatSet 3 (some .int) 1 wr_afloatSet [.ref qm] σ0 (some (.int r.1)) r.2 := by
  refine m_of (by decide) rfl ?_
  intro p e s m args below meth c ls K hl
  have B8 : ∀ (k8 : MS → Int32 → Int32 → Option (Int32 × MS)) (hk8 : (∀ (σ : MS) (x1 : Int32) (x2 : Int32) (ls : Array Slot), k8 σ x1 x2 = some r → ag wr_afloatSet σ0 σ → lq ls 3 [(0, some (.ref qm)), (1, some (.int x1)), (2, some (.int x2))] → ZM p l e 1 s m args below meth c D cz qm wr_afloatSet σ0 (some (.int r.1)) r.2 σ (F0 m 8 ls []))) (σ : MS) (x1 : Int32) (x2 : Int32) (ls : Array Slot), M_afloatSet_B8 G k8 σ x1 x2 = some r → ag wr_afloatSet σ0 σ → lq ls 3 [(0, some (.ref qm)), (1, some (.int x1)), (2, some (.int x2))] → ZM p l e 1 s m args below meth c D cz qm wr_afloatSet σ0 (some (.int r.1)) r.2 σ (F0 m 8 ls []) := by
    intro k8 hk8 σ x1 x2 ls hF ha hl
    unfold M_afloatSet_B8 at hF
    refine g_iload_n (i := 2) K hl dX4_afloatSet_8 rfl rfl ?_
    refine g_aload_n (i := 0) K hl dX4_afloatSet_9 rfl rfl ?_
    refine mget_60 K dX4_afloatSet_10 ?_
    refine g_icmp_ge (tgt := 40) K hF dX4_afloatSet_13 (by decide) (fun hF => ?_) (fun hF => ?_)
    · refine g_iload_n (i := 1) K hl dX4_afloatSet_40 rfl rfl ?_
      exact m_iretW K hF ha dX4_afloatSet_41
    · refine g_iload_n (i := 1) K hl dX4_afloatSet_16 rfl rfl ?_
      refine g_aload_n (i := 0) K hl dX4_afloatSet_17 rfl rfl ?_
      refine g_iload_n (i := 2) K hl dX4_afloatSet_18 rfl rfl ?_
      refine m_callVP K hl hF (fun t h => w_isAfloat _ _ t h) rfl cp_isAfloat q2035 rfl rfl rfl rfl rfl dX4_afloatSet_19 (fun t1 hF => ?_)
      refine g_if_eq (tgt := 31) K hF dX4_afloatSet_22 (by decide) (fun hF => ?_) (fun hF => ?_)
      · refine g_iconst K dX4_afloatSet_31 lc_0 ?_
        refine g_ior K dX4_afloatSet_32 ?_
        refine g_istore_n (i := 1) K hl dX4_afloatSet_33 rfl rfl rfl (fun ls hl => ?_)
        refine g_iinc (i := 2) K hl dX4_afloatSet_34 rfl lc_1 rfl rfl (fun ls hl => ?_)
        refine g_goto (tgt := 8) K dX4_afloatSet_37 (by decide) ?_
        exact hk8 _ _ _ ls hF ha (lq_sub hl rfl)
      · refine g_iconst K dX4_afloatSet_25 lc_1 ?_
        refine g_iload_n (i := 2) K hl dX4_afloatSet_26 rfl rfl ?_
        refine g_ishl K dX4_afloatSet_27 ?_
        refine g_goto (tgt := 32) K dX4_afloatSet_28 (by decide) ?_
        refine g_ior K dX4_afloatSet_32 ?_
        refine g_istore_n (i := 1) K hl dX4_afloatSet_33 rfl rfl rfl (fun ls hl => ?_)
        refine g_iinc (i := 2) K hl dX4_afloatSet_34 rfl lc_1 rfl rfl (fun ls hl => ?_)
        refine g_goto (tgt := 8) K dX4_afloatSet_37 (by decide) ?_
        exact hk8 _ _ _ ls hF ha (lq_sub hl rfl)
  have L8 : ∀  (n : Nat) (σ : MS) (x1 : Int32) (x2 : Int32) (ls : Array Slot), M_afloatSet_L8 G  n σ x1 x2 = some r → ag wr_afloatSet σ0 σ → lq ls 3 [(0, some (.ref qm)), (1, some (.int x1)), (2, some (.int x2))] → ZM p l e 1 s m args below meth c D cz qm wr_afloatSet σ0 (some (.int r.1)) r.2 σ (F0 m 8 ls []) := by
    intro  n
    induction n with
    | zero => intro σ x1 x2 ls hF; exact absurd hF (fun h => by cases h)
    | succ n ih => intro σ x1 x2 ls hF ha hl; exact B8  _ ih _ _ _ ls hF ha hl
  have ha : ag wr_afloatSet σ0 σ0 := ag.rf
  unfold M_afloatSet at hF
  refine g_aload_n (i := 0) K hl dX4_afloatSet_0 rfl rfl ?_
  refine m_callVV K hl hF ha rfl (fun t h => w_load G _  t h) rfl cp_load q2027 rfl rfl rfl rfl rfl dX4_afloatSet_1 (fun σ1 hF ha => ?_)
  refine g_iconst K dX4_afloatSet_4 lc_0 ?_
  refine g_istore_n (i := 1) K hl dX4_afloatSet_5 rfl rfl rfl (fun ls hl => ?_)
  refine g_iconst K dX4_afloatSet_6 lc_0 ?_
  refine g_istore_n (i := 2) K hl dX4_afloatSet_7 rfl rfl rfl (fun ls hl => ?_)
  exact L8  G _ _ _ ls hF ha (lq_sub hl rfl)

theorem cp_gone : cpV yX4_gone cX4_gone 2 (some .int) 1 := ⟨q2227, q2228, q152, q2229, by decide +kernel⟩
set_option maxHeartbeats 4000000 in
set_option maxRecDepth 100000 in
theorem w_gone {l : Launch} {D : va_G} {cz : Nat → ClassId} {qm : Nat} (G : Nat) (σ0 : MS) (a0 : Int32) (r : (Int32 × MS)) (hF : M_gone G σ0 a0 = some r) : mMet l D cz qm yX4_gone cX4_gone 2 (some .int) 8 wr_gone [.ref qm, .int a0] σ0 (some (.int r.1)) r.2 := by
  refine m_of (by decide) rfl ?_
  intro p e s m args below meth c ls K hl
  have ha : ag wr_gone σ0 σ0 := ag.rf
  unfold M_gone at hF
  refine g_iload_n (i := 1) K hl dX4_gone_0 rfl rfl ?_
  refine g_if_lt (tgt := 15) K hF dX4_gone_1 (by decide) (fun hF => ?_) (fun hF => ?_)
  · refine g_bipush K dX4_gone_15 lb_m2 ?_
    refine g_goto (tgt := 25) K dX4_gone_17 (by decide) ?_
    exact m_iretW K hF ha dX4_gone_25
  · refine g_iload_n (i := 1) K hl dX4_gone_4 rfl rfl ?_
    refine g_aload_n (i := 0) K hl dX4_gone_5 rfl rfl ?_
    refine m_callVW K hl hF ha rfl (fun t h => w_afloatSet G _  t h) rfl cp_afloatSet q2230 rfl rfl rfl rfl rfl dX4_gone_6 (fun t2 σ1 hF ha => ?_)
    refine g_iconst K dX4_gone_9 lc_m1 ?_
    refine g_ixor K dX4_gone_10 ?_
    refine g_iand K dX4_gone_11 ?_
    refine g_if_eq (tgt := 20) K hF dX4_gone_12 (by decide) (fun hF => ?_) (fun hF => ?_)
    · refine g_aload_n (i := 0) K hl dX4_gone_20 rfl rfl ?_
      refine g_iload_n (i := 1) K hl dX4_gone_21 rfl rfl ?_
      refine m_callVW K hl hF ha rfl (fun t h => w_goneOf G _ _ t h) rfl cp_goneOf q2234 rfl rfl rfl rfl rfl dX4_gone_22 (fun t4 σ3 hF ha => ?_)
      exact m_iretW K hF ha dX4_gone_25
    · refine g_bipush K dX4_gone_15 lb_m2 ?_
      refine g_goto (tgt := 25) K dX4_gone_17 (by decide) ?_
      exact m_iretW K hF ha dX4_gone_25

theorem cp_members : cpS yX4_members cX4_members 3 (some .int) 1 := ⟨q2247, q152, q2248, by decide +kernel⟩
set_option maxHeartbeats 4000000 in
set_option maxRecDepth 100000 in
theorem w_members {l : Launch} {D : va_G} {cz : Nat → ClassId} {qm : Nat} (G : Nat) (σ0 : MS) (a0 : Int32) (r : Int32) (hF : M_members G a0 = some r) : mMet l D cz qm yX4_members cX4_members 3 (some .int) 0 wr_members [.int a0] σ0 (some (.int r)) σ0 := by
  refine m_of (by decide) rfl ?_
  intro p e s m args below meth c ls K hl
  have B4 : ∀ (k4 : Int32 → Int32 → Int32 → Option Int32) (hk4 : (∀ (x0 : Int32) (x1 : Int32) (x2 : Int32) (ls : Array Slot), k4 x0 x1 x2 = some r → lq ls 3 [(0, some (.int x0)), (1, some (.int x1)), (2, some (.int x2))] → ZM p l e 0 s m args below meth c D cz qm wr_members σ0 (some (.int r)) σ0 σ0 (F0 m 4 ls []))) (x0 : Int32) (x1 : Int32) (x2 : Int32) (ls : Array Slot), M_members_B4 G k4 x0 x1 x2 = some r → lq ls 3 [(0, some (.int x0)), (1, some (.int x1)), (2, some (.int x2))] → ZM p l e 0 s m args below meth c D cz qm wr_members σ0 (some (.int r)) σ0 σ0 (F0 m 4 ls []) := by
    intro k4 hk4 x0 x1 x2 ls hF hl
    unfold M_members_B4 at hF
    refine g_iload_n (i := 2) K hl dX4_members_4 rfl rfl ?_
    refine g_bipush K dX4_members_5 lb_10 ?_
    refine g_icmp_ge (tgt := 24) K hF dX4_members_7 (by decide) (fun hF => ?_) (fun hF => ?_)
    · refine g_iload_n (i := 1) K hl dX4_members_24 rfl rfl ?_
      exact m_iretP K hF ag.rf dX4_members_25
    · refine g_iload_n (i := 1) K hl dX4_members_10 rfl rfl ?_
      refine g_iload_n (i := 0) K hl dX4_members_11 rfl rfl ?_
      refine g_iload_n (i := 2) K hl dX4_members_12 rfl rfl ?_
      refine g_ishr K dX4_members_13 ?_
      refine g_iconst K dX4_members_14 lc_1 ?_
      refine g_iand K dX4_members_15 ?_
      refine g_iadd K dX4_members_16 ?_
      refine g_istore_n (i := 1) K hl dX4_members_17 rfl rfl rfl (fun ls hl => ?_)
      refine g_iinc (i := 2) K hl dX4_members_18 rfl lc_1 rfl rfl (fun ls hl => ?_)
      refine g_goto (tgt := 4) K dX4_members_21 (by decide) ?_
      exact hk4 _ _ _ ls hF (lq_sub hl rfl)
  have L4 : ∀  (n : Nat) (x0 : Int32) (x1 : Int32) (x2 : Int32) (ls : Array Slot), M_members_L4 G  n x0 x1 x2 = some r → lq ls 3 [(0, some (.int x0)), (1, some (.int x1)), (2, some (.int x2))] → ZM p l e 0 s m args below meth c D cz qm wr_members σ0 (some (.int r)) σ0 σ0 (F0 m 4 ls []) := by
    intro  n
    induction n with
    | zero => intro x0 x1 x2 ls hF; exact absurd hF (fun h => by cases h)
    | succ n ih => intro x0 x1 x2 ls hF hl; exact B4  _ ih _ _ _ ls hF hl
  unfold M_members at hF
  refine g_iconst K dX4_members_0 lc_0 ?_
  refine g_istore_n (i := 1) K hl dX4_members_1 rfl rfl rfl (fun ls hl => ?_)
  refine g_iconst K dX4_members_2 lc_0 ?_
  refine g_istore_n (i := 2) K hl dX4_members_3 rfl rfl rfl (fun ls hl => ?_)
  exact L4  G _ _ _ ls hF (lq_sub hl rfl)

theorem cp_provide : cpV yX4_provide cX4_provide 7 (some .int) 2 := ⟨q2243, q2244, q152, q2245, by decide +kernel⟩
set_option maxHeartbeats 4000000 in
set_option maxRecDepth 100000 in
theorem w_provide {l : Launch} {D : va_G} {cz : Nat → ClassId} {qm : Nat} (G : Nat) (σ0 : MS) (a0 : Int32) (a1 : Int32) (r : (Int32 × MS)) (hF : M_provide G σ0 a0 a1 = some r) : mMet l D cz qm yX4_provide cX4_provide 7 (some .int) 8 wr_provide [.ref qm, .int a0, .int a1] σ0 (some (.int r.1)) r.2 := by
  refine m_of (by decide) rfl ?_
  intro p e s m args below meth c ls K hl
  have L73 : ∀ (k32 : MS → Int32 → Int32 → Int32 → Int32 → Int32 → Option (Int32 × MS)) (hk32 : (∀ (σ : MS) (x1 : Int32) (x2 : Int32) (x3 : Int32) (x4 : Int32) (x5 : Int32) (ls : Array Slot), k32 σ x1 x2 x3 x4 x5 = some r → ag wr_provide σ0 σ → lq ls 7 [(0, some (.ref qm)), (1, some (.int x1)), (2, some (.int x2)), (3, some (.int x3)), (4, some (.int x4)), (5, some (.int x5))] → ZM p l e 8 s m args below meth c D cz qm wr_provide σ0 (some (.int r.1)) r.2 σ (F0 m 32 ls []))) (σ : MS) (x1 : Int32) (x2 : Int32) (x3 : Int32) (x4 : Int32) (x5 : Int32) (ls : Array Slot), M_provide_L73 G k32 σ x1 x2 x3 x4 x5 = some r → ag wr_provide σ0 σ → lq ls 7 [(0, some (.ref qm)), (1, some (.int x1)), (2, some (.int x2)), (3, some (.int x3)), (4, some (.int x4)), (5, some (.int x5))] → ZM p l e 8 s m args below meth c D cz qm wr_provide σ0 (some (.int r.1)) r.2 σ (F0 m 73 ls []) := by
    intro k32 hk32 σ x1 x2 x3 x4 x5 ls hF ha hl
    unfold M_provide_L73 at hF
    refine g_aload_n (i := 0) K hl dX4_provide_73 rfl rfl ?_
    refine g_iload (i := 5) K hl dX4_provide_74 rfl ?_
    refine m_callVW K hl hF ha rfl (fun t h => w_goneOf G _ _ t h) rfl cp_goneOf q2234 rfl rfl rfl rfl rfl dX4_provide_76 (fun t2 σ1 hF ha => ?_)
    refine g_istore (i := 6) K hl dX4_provide_79 rfl rfl (fun ls hl => ?_)
    refine g_iload (i := 6) K hl dX4_provide_81 rfl ?_
    refine g_if_lt (tgt := 92) K hF dX4_provide_83 (by decide) (fun hF => ?_) (fun hF => ?_)
    · refine g_iload (i := 5) K hl dX4_provide_92 rfl ?_
      refine g_istore (i := 4) K hl dX4_provide_94 rfl rfl (fun ls hl => ?_)
      refine g_iinc (i := 5) K hl dX4_provide_96 rfl lc_1 rfl rfl (fun ls hl => ?_)
      refine g_goto (tgt := 32) K dX4_provide_99 (by decide) ?_
      exact hk32 _ _ _ _ _ _ ls hF ha (lq_sub hl rfl)
    · refine g_iload (i := 6) K hl dX4_provide_86 rfl ?_
      refine g_iload_n (i := 1) K hl dX4_provide_88 rfl rfl ?_
      refine g_icmp_le (tgt := 96) K hF dX4_provide_89 (by decide) (fun hF => ?_) (fun hF => ?_)
      · refine g_iinc (i := 5) K hl dX4_provide_96 rfl lc_1 rfl rfl (fun ls hl => ?_)
        refine g_goto (tgt := 32) K dX4_provide_99 (by decide) ?_
        exact hk32 _ _ _ _ _ _ ls hF ha (lq_sub hl rfl)
      · refine g_iload (i := 5) K hl dX4_provide_92 rfl ?_
        refine g_istore (i := 4) K hl dX4_provide_94 rfl rfl (fun ls hl => ?_)
        refine g_iinc (i := 5) K hl dX4_provide_96 rfl lc_1 rfl rfl (fun ls hl => ?_)
        refine g_goto (tgt := 32) K dX4_provide_99 (by decide) ?_
        exact hk32 _ _ _ _ _ _ ls hF ha (lq_sub hl rfl)
  have B32 : ∀ (k32 : MS → Int32 → Int32 → Int32 → Int32 → Int32 → Option (Int32 × MS)) (hk32 : (∀ (σ : MS) (x1 : Int32) (x2 : Int32) (x3 : Int32) (x4 : Int32) (x5 : Int32) (ls : Array Slot), k32 σ x1 x2 x3 x4 x5 = some r → ag wr_provide σ0 σ → lq ls 7 [(0, some (.ref qm)), (1, some (.int x1)), (2, some (.int x2)), (3, some (.int x3)), (4, some (.int x4)), (5, some (.int x5))] → ZM p l e 8 s m args below meth c D cz qm wr_provide σ0 (some (.int r.1)) r.2 σ (F0 m 32 ls []))) (σ : MS) (x1 : Int32) (x2 : Int32) (x3 : Int32) (x4 : Int32) (x5 : Int32) (ls : Array Slot), M_provide_B32 G k32 σ x1 x2 x3 x4 x5 = some r → ag wr_provide σ0 σ → lq ls 7 [(0, some (.ref qm)), (1, some (.int x1)), (2, some (.int x2)), (3, some (.int x3)), (4, some (.int x4)), (5, some (.int x5))] → ZM p l e 8 s m args below meth c D cz qm wr_provide σ0 (some (.int r.1)) r.2 σ (F0 m 32 ls []) := by
    intro k32 hk32 σ x1 x2 x3 x4 x5 ls hF ha hl
    unfold M_provide_B32 at hF
    refine g_iload (i := 5) K hl dX4_provide_32 rfl ?_
    refine g_iconst K dX4_provide_34 lc_1 ?_
    refine g_aload_n (i := 0) K hl dX4_provide_35 rfl rfl ?_
    refine mget_60 K dX4_provide_36 ?_
    refine g_ishl K dX4_provide_39 ?_
    refine g_icmp_ge (tgt := 102) K hF dX4_provide_40 (by decide) (fun hF => ?_) (fun hF => ?_)
    · refine g_iload (i := 4) K hl dX4_provide_102 rfl ?_
      refine g_if_ge (tgt := 111) K hF dX4_provide_104 (by decide) (fun hF => ?_) (fun hF => ?_)
      · refine g_iload_n (i := 2) K hl dX4_provide_111 rfl rfl ?_
        refine g_if_ne (tgt := 123) K hF dX4_provide_112 (by decide) (fun hF => ?_) (fun hF => ?_)
        · refine g_iload (i := 4) K hl dX4_provide_123 rfl ?_
          exact m_iretW K hF ha dX4_provide_125
        · refine g_iload (i := 4) K hl dX4_provide_115 rfl ?_
          refine m_callSP K hl hF (fun t h => w_members G _ _ t h) cp_members q2246 rfl rfl rfl rfl rfl dX4_provide_117 (fun t1 hF => ?_)
          refine g_goto (tgt := 125) K dX4_provide_120 (by decide) ?_
          exact m_iretW K hF ha dX4_provide_125
      · refine g_iconst K dX4_provide_107 lc_m1 ?_
        refine g_goto (tgt := 125) K dX4_provide_108 (by decide) ?_
        exact m_iretW K hF ha dX4_provide_125
    · refine g_iload (i := 5) K hl dX4_provide_43 rfl ?_
      refine g_iload_n (i := 3) K hl dX4_provide_45 rfl rfl ?_
      refine g_iconst K dX4_provide_46 lc_m1 ?_
      refine g_ixor K dX4_provide_47 ?_
      refine g_iand K dX4_provide_48 ?_
      refine g_if_ne (tgt := 96) K hF dX4_provide_49 (by decide) (fun hF => ?_) (fun hF => ?_)
      · refine g_iinc (i := 5) K hl dX4_provide_96 rfl lc_1 rfl rfl (fun ls hl => ?_)
        refine g_goto (tgt := 32) K dX4_provide_99 (by decide) ?_
        exact hk32 _ _ _ _ _ _ ls hF ha (lq_sub hl rfl)
      · refine g_iload (i := 4) K hl dX4_provide_52 rfl ?_
        refine g_if_lt (tgt := 73) K hF dX4_provide_54 (by decide) (fun hF => ?_) (fun hF => ?_)
        · exact L73 k32 hk32 _ _ _ _ _ _ ls hF ha (lq_sub hl rfl)
        · refine g_iload (i := 5) K hl dX4_provide_57 rfl ?_
          refine m_callSP K hl hF (fun t h => w_members G _ _ t h) cp_members q2246 rfl rfl rfl rfl rfl dX4_provide_59 (fun t2 hF => ?_)
          refine g_iload (i := 4) K hl dX4_provide_62 rfl ?_
          refine m_callSP K hl hF (fun t h => w_members G _ _ t h) cp_members q2246 rfl rfl rfl rfl rfl dX4_provide_64 (fun t3 hF => ?_)
          refine g_icmp_lt (tgt := 73) K hF dX4_provide_67 (by decide) (fun hF => ?_) (fun hF => ?_)
          · exact L73 k32 hk32 _ _ _ _ _ _ ls hF ha (lq_sub hl rfl)
          · refine g_goto (tgt := 96) K dX4_provide_70 (by decide) ?_
            refine g_iinc (i := 5) K hl dX4_provide_96 rfl lc_1 rfl rfl (fun ls hl => ?_)
            refine g_goto (tgt := 32) K dX4_provide_99 (by decide) ?_
            exact hk32 _ _ _ _ _ _ ls hF ha (lq_sub hl rfl)
  have L32 : ∀  (n : Nat) (σ : MS) (x1 : Int32) (x2 : Int32) (x3 : Int32) (x4 : Int32) (x5 : Int32) (ls : Array Slot), M_provide_L32 G  n σ x1 x2 x3 x4 x5 = some r → ag wr_provide σ0 σ → lq ls 7 [(0, some (.ref qm)), (1, some (.int x1)), (2, some (.int x2)), (3, some (.int x3)), (4, some (.int x4)), (5, some (.int x5))] → ZM p l e 8 s m args below meth c D cz qm wr_provide σ0 (some (.int r.1)) r.2 σ (F0 m 32 ls []) := by
    intro  n
    induction n with
    | zero => intro σ x1 x2 x3 x4 x5 ls hF; exact absurd hF (fun h => by cases h)
    | succ n ih => intro σ x1 x2 x3 x4 x5 ls hF ha hl; exact B32  _ ih _ _ _ _ _ _ ls hF ha hl
  have ha : ag wr_provide σ0 σ0 := ag.rf
  unfold M_provide at hF
  refine g_iload_n (i := 1) K hl dX4_provide_0 rfl rfl ?_
  refine g_iconst K dX4_provide_1 lc_1 ?_
  refine g_bipush K dX4_provide_2 lb_60 ?_
  refine m_callSP K hl hF (fun t h => w_isIn _ _ _ _ t h) cp_isIn q2008 rfl rfl rfl rfl rfl dX4_provide_4 (fun t1 hF => ?_)
  refine g_if_eq (tgt := 19) K hF dX4_provide_7 (by decide) (fun hF => ?_) (fun hF => ?_)
  · refine g_iconst K dX4_provide_19 lc_m1 ?_
    exact m_iretW K hF ha dX4_provide_20
  · refine g_iload_n (i := 2) K hl dX4_provide_10 rfl rfl ?_
    refine g_iconst K dX4_provide_11 lc_0 ?_
    refine g_iconst K dX4_provide_12 lc_1 ?_
    refine m_callSP K hl hF (fun t h => w_isIn _ _ _ _ t h) cp_isIn q2008 rfl rfl rfl rfl rfl dX4_provide_13 (fun t2 hF => ?_)
    refine g_if_ne (tgt := 21) K hF dX4_provide_16 (by decide) (fun hF => ?_) (fun hF => ?_)
    · refine g_aload_n (i := 0) K hl dX4_provide_21 rfl rfl ?_
      refine m_callVW K hl hF ha rfl (fun t h => w_afloatSet G _  t h) rfl cp_afloatSet q2230 rfl rfl rfl rfl rfl dX4_provide_22 (fun t4 σ3 hF ha => ?_)
      refine g_istore_n (i := 3) K hl dX4_provide_25 rfl rfl rfl (fun ls hl => ?_)
      refine g_iconst K dX4_provide_26 lc_m1 ?_
      refine g_istore (i := 4) K hl dX4_provide_27 rfl rfl (fun ls hl => ?_)
      refine g_iconst K dX4_provide_29 lc_1 ?_
      refine g_istore (i := 5) K hl dX4_provide_30 rfl rfl (fun ls hl => ?_)
      exact L32  G _ _ _ _ _ _ ls hF ha (lq_sub hl rfl)
    · refine g_iconst K dX4_provide_19 lc_m1 ?_
      exact m_iretW K hF ha dX4_provide_20

theorem cp_matchOf : cpV yX4_matchOf cX4_matchOf 5 (some .int) 2 := ⟨q2259, qs137, q152, q2260, by decide +kernel⟩
set_option maxHeartbeats 4000000 in
set_option maxRecDepth 100000 in
theorem w_matchOf {l : Launch} {D : va_G} {cz : Nat → ClassId} {qm : Nat} (G : Nat) (σ0 : MS) (a0 : Int32) (a1 : Int32) (r : (Int32 × MS)) (hF : M_matchOf G σ0 a0 a1 = some r) : mMet l D cz qm yX4_matchOf cX4_matchOf 5 (some .int) 7 wr_matchOf [.ref qm, .int a0, .int a1] σ0 (some (.int r.1)) r.2 := by
  refine m_of (by decide) rfl ?_
  intro p e s m args below meth c ls K hl
  have L31 : ∀ (k9 : MS → Int32 → Int32 → Int32 → Int32 → Option (Int32 × MS)) (hk9 : (∀ (σ : MS) (x1 : Int32) (x2 : Int32) (x3 : Int32) (x4 : Int32) (ls : Array Slot), k9 σ x1 x2 x3 x4 = some r → ag wr_matchOf σ0 σ → lq ls 5 [(0, some (.ref qm)), (1, some (.int x1)), (2, some (.int x2)), (3, some (.int x3)), (4, some (.int x4))] → ZM p l e 7 s m args below meth c D cz qm wr_matchOf σ0 (some (.int r.1)) r.2 σ (F0 m 9 ls []))) (σ : MS) (x1 : Int32) (x2 : Int32) (x4 : Int32) (s0 : Int32) (s1 : Int32) (ls : Array Slot), M_matchOf_L31 G k9 σ x1 x2 x4 s0 s1 = some r → ag wr_matchOf σ0 σ → lq ls 5 [(0, some (.ref qm)), (1, some (.int x1)), (2, some (.int x2)), (4, some (.int x4))] → ZM p l e 7 s m args below meth c D cz qm wr_matchOf σ0 (some (.int r.1)) r.2 σ (F0 m 31 ls [.int s1, .int s0]) := by
    intro k9 hk9 σ x1 x2 x4 s0 s1 ls hF ha hl
    unfold M_matchOf_L31 at hF
    refine g_iadd K dX4_matchOf_31 ?_
    refine g_istore_n (i := 3) K hl dX4_matchOf_32 rfl rfl rfl (fun ls hl => ?_)
    refine g_iload_n (i := 3) K hl dX4_matchOf_33 rfl rfl ?_
    refine g_aload_n (i := 0) K hl dX4_matchOf_34 rfl rfl ?_
    refine g_iconst K dX4_matchOf_35 lc_1 ?_
    refine g_iload_n (i := 2) K hl dX4_matchOf_36 rfl rfl ?_
    refine m_callVW K hl hF ha rfl (fun t h => w_actsBy G _ _ _ t h) rfl cp_actsBy q2153 rfl rfl rfl rfl rfl dX4_matchOf_37 (fun t2 σ1 hF ha => ?_)
    refine g_if_eq (tgt := 47) K hF dX4_matchOf_40 (by decide) (fun hF => ?_) (fun hF => ?_)
    · refine g_iconst K dX4_matchOf_47 lc_0 ?_
      refine g_isub K dX4_matchOf_48 ?_
      refine g_istore_n (i := 3) K hl dX4_matchOf_49 rfl rfl rfl (fun ls hl => ?_)
      refine g_iinc (i := 4) K hl dX4_matchOf_50 rfl lc_1 rfl rfl (fun ls hl => ?_)
      refine g_goto (tgt := 9) K dX4_matchOf_53 (by decide) ?_
      exact hk9 _ _ _ _ _ ls hF ha (lq_sub hl rfl)
    · refine g_iconst K dX4_matchOf_43 lc_1 ?_
      refine g_goto (tgt := 48) K dX4_matchOf_44 (by decide) ?_
      refine g_isub K dX4_matchOf_48 ?_
      refine g_istore_n (i := 3) K hl dX4_matchOf_49 rfl rfl rfl (fun ls hl => ?_)
      refine g_iinc (i := 4) K hl dX4_matchOf_50 rfl lc_1 rfl rfl (fun ls hl => ?_)
      refine g_goto (tgt := 9) K dX4_matchOf_53 (by decide) ?_
      exact hk9 _ _ _ _ _ ls hF ha (lq_sub hl rfl)
  have B9 : ∀ (k9 : MS → Int32 → Int32 → Int32 → Int32 → Option (Int32 × MS)) (hk9 : (∀ (σ : MS) (x1 : Int32) (x2 : Int32) (x3 : Int32) (x4 : Int32) (ls : Array Slot), k9 σ x1 x2 x3 x4 = some r → ag wr_matchOf σ0 σ → lq ls 5 [(0, some (.ref qm)), (1, some (.int x1)), (2, some (.int x2)), (3, some (.int x3)), (4, some (.int x4))] → ZM p l e 7 s m args below meth c D cz qm wr_matchOf σ0 (some (.int r.1)) r.2 σ (F0 m 9 ls []))) (σ : MS) (x1 : Int32) (x2 : Int32) (x3 : Int32) (x4 : Int32) (ls : Array Slot), M_matchOf_B9 G k9 σ x1 x2 x3 x4 = some r → ag wr_matchOf σ0 σ → lq ls 5 [(0, some (.ref qm)), (1, some (.int x1)), (2, some (.int x2)), (3, some (.int x3)), (4, some (.int x4))] → ZM p l e 7 s m args below meth c D cz qm wr_matchOf σ0 (some (.int r.1)) r.2 σ (F0 m 9 ls []) := by
    intro k9 hk9 σ x1 x2 x3 x4 ls hF ha hl
    unfold M_matchOf_B9 at hF
    refine g_iload (i := 4) K hl dX4_matchOf_9 rfl ?_
    refine g_bipush K dX4_matchOf_11 lb_10 ?_
    refine g_icmp_ge (tgt := 56) K hF dX4_matchOf_13 (by decide) (fun hF => ?_) (fun hF => ?_)
    · refine g_iload_n (i := 3) K hl dX4_matchOf_56 rfl rfl ?_
      exact m_iretW K hF ha dX4_matchOf_57
    · refine g_iload_n (i := 3) K hl dX4_matchOf_16 rfl rfl ?_
      refine g_aload_n (i := 0) K hl dX4_matchOf_17 rfl rfl ?_
      refine g_iconst K dX4_matchOf_18 lc_0 ?_
      refine g_iload_n (i := 1) K hl dX4_matchOf_19 rfl rfl ?_
      refine m_callVW K hl hF ha rfl (fun t h => w_actsBy G _ _ _ t h) rfl cp_actsBy q2153 rfl rfl rfl rfl rfl dX4_matchOf_20 (fun t2 σ1 hF ha => ?_)
      refine g_if_eq (tgt := 30) K hF dX4_matchOf_23 (by decide) (fun hF => ?_) (fun hF => ?_)
      · refine g_iconst K dX4_matchOf_30 lc_0 ?_
        exact L31 k9 hk9 _ _ _ _ _ _ ls hF ha (lq_sub hl rfl)
      · refine g_iconst K dX4_matchOf_26 lc_1 ?_
        refine g_goto (tgt := 31) K dX4_matchOf_27 (by decide) ?_
        exact L31 k9 hk9 _ _ _ _ _ _ ls hF ha (lq_sub hl rfl)
  have L9 : ∀  (n : Nat) (σ : MS) (x1 : Int32) (x2 : Int32) (x3 : Int32) (x4 : Int32) (ls : Array Slot), M_matchOf_L9 G  n σ x1 x2 x3 x4 = some r → ag wr_matchOf σ0 σ → lq ls 5 [(0, some (.ref qm)), (1, some (.int x1)), (2, some (.int x2)), (3, some (.int x3)), (4, some (.int x4))] → ZM p l e 7 s m args below meth c D cz qm wr_matchOf σ0 (some (.int r.1)) r.2 σ (F0 m 9 ls []) := by
    intro  n
    induction n with
    | zero => intro σ x1 x2 x3 x4 ls hF; exact absurd hF (fun h => by cases h)
    | succ n ih => intro σ x1 x2 x3 x4 ls hF ha hl; exact B9  _ ih _ _ _ _ _ ls hF ha hl
  have ha : ag wr_matchOf σ0 σ0 := ag.rf
  unfold M_matchOf at hF
  refine g_aload_n (i := 0) K hl dX4_matchOf_0 rfl rfl ?_
  refine m_callVV K hl hF ha rfl (fun t h => w_load G _  t h) rfl cp_load q2027 rfl rfl rfl rfl rfl dX4_matchOf_1 (fun σ1 hF ha => ?_)
  refine g_iconst K dX4_matchOf_4 lc_0 ?_
  refine g_istore_n (i := 3) K hl dX4_matchOf_5 rfl rfl rfl (fun ls hl => ?_)
  refine g_iconst K dX4_matchOf_6 lc_0 ?_
  refine g_istore (i := 4) K hl dX4_matchOf_7 rfl rfl (fun ls hl => ?_)
  exact L9  G _ _ _ _ _ ls hF ha (lq_sub hl rfl)

theorem cp_match : cpV yX4_match cX4_match 3 (some .int) 2 := ⟨q2250, q2251, q152, q2252, by decide +kernel⟩
set_option maxHeartbeats 4000000 in
set_option maxRecDepth 100000 in
theorem w_match {l : Launch} {D : va_G} {cz : Nat → ClassId} {qm : Nat} (G : Nat) (σ0 : MS) (a0 : Int32) (a1 : Int32) (r : (Int32 × MS)) (hF : M_match G σ0 a0 a1 = some r) : mMet l D cz qm yX4_match cX4_match 3 (some .int) 8 wr_match [.ref qm, .int a0, .int a1] σ0 (some (.int r.1)) r.2 := by
  refine m_of (by decide) rfl ?_
  intro p e s m args below meth c ls K hl
  have ha : ag wr_match σ0 σ0 := ag.rf
  unfold M_match at hF
  refine g_aload_n (i := 0) K hl dX4_match_0 rfl rfl ?_
  refine g_iload_n (i := 1) K hl dX4_match_1 rfl rfl ?_
  refine m_callVP K hl hF (fun t h => w_isRule _ _ t h) rfl cp_isRule q2253 rfl rfl rfl rfl rfl dX4_match_2 (fun t1 hF => ?_)
  refine g_if_eq (tgt := 33) K hF dX4_match_5 (by decide) (fun hF => ?_) (fun hF => ?_)
  · refine g_ldcw K dX4_match_33 q2261 ?_
    exact m_iretW K hF ha dX4_match_36
  · refine g_aload_n (i := 0) K hl dX4_match_8 rfl rfl ?_
    refine g_iload_n (i := 2) K hl dX4_match_9 rfl rfl ?_
    refine m_callVP K hl hF (fun t h => w_isRule _ _ t h) rfl cp_isRule q2253 rfl rfl rfl rfl rfl dX4_match_10 (fun t2 hF => ?_)
    refine g_if_eq (tgt := 33) K hF dX4_match_13 (by decide) (fun hF => ?_) (fun hF => ?_)
    · refine g_ldcw K dX4_match_33 q2261 ?_
      exact m_iretW K hF ha dX4_match_36
    · refine g_aload_n (i := 0) K hl dX4_match_16 rfl rfl ?_
      refine mget_61 K dX4_match_17 ?_
      refine g_iconst K dX4_match_20 lc_1 ?_
      refine g_icmp_le (tgt := 33) K hF dX4_match_21 (by decide) (fun hF => ?_) (fun hF => ?_)
      · refine g_ldcw K dX4_match_33 q2261 ?_
        exact m_iretW K hF ha dX4_match_36
      · refine g_aload_n (i := 0) K hl dX4_match_24 rfl rfl ?_
        refine g_iload_n (i := 1) K hl dX4_match_25 rfl rfl ?_
        refine g_iload_n (i := 2) K hl dX4_match_26 rfl rfl ?_
        refine m_callVW K hl hF ha rfl (fun t h => w_matchOf G _ _ _ t h) rfl cp_matchOf q2257 rfl rfl rfl rfl rfl dX4_match_27 (fun t4 σ3 hF ha => ?_)
        refine g_goto (tgt := 36) K dX4_match_30 (by decide) ?_
        exact m_iretW K hF ha dX4_match_36

theorem cp_reply : cpV yX4_reply cX4_reply 6 (some .int) 1 := ⟨q2263, q2264, q152, q2265, by decide +kernel⟩
set_option maxHeartbeats 4000000 in
set_option maxRecDepth 100000 in
theorem w_reply {l : Launch} {D : va_G} {cz : Nat → ClassId} {qm : Nat} (G : Nat) (σ0 : MS) (a0 : Int32) (r : (Int32 × MS)) (hF : M_reply G σ0 a0 = some r) : mMet l D cz qm yX4_reply cX4_reply 6 (some .int) 8 wr_reply [.ref qm, .int a0] σ0 (some (.int r.1)) r.2 := by
  refine m_of (by decide) rfl ?_
  intro p e s m args below meth c ls K hl
  have B30 : ∀ (k30 : MS → Int32 → Int32 → Int32 → Int32 → Option (Int32 × MS)) (hk30 : (∀ (σ : MS) (x1 : Int32) (x2 : Int32) (x3 : Int32) (x4 : Int32) (ls : Array Slot), k30 σ x1 x2 x3 x4 = some r → ag wr_reply σ0 σ → lq ls 6 [(0, some (.ref qm)), (1, some (.int x1)), (2, some (.int x2)), (3, some (.int x3)), (4, some (.int x4))] → ZM p l e 8 s m args below meth c D cz qm wr_reply σ0 (some (.int r.1)) r.2 σ (F0 m 30 ls []))) (σ : MS) (x1 : Int32) (x2 : Int32) (x3 : Int32) (x4 : Int32) (ls : Array Slot), M_reply_B30 G k30 σ x1 x2 x3 x4 = some r → ag wr_reply σ0 σ → lq ls 6 [(0, some (.ref qm)), (1, some (.int x1)), (2, some (.int x2)), (3, some (.int x3)), (4, some (.int x4))] → ZM p l e 8 s m args below meth c D cz qm wr_reply σ0 (some (.int r.1)) r.2 σ (F0 m 30 ls []) := by
    intro k30 hk30 σ x1 x2 x3 x4 ls hF ha hl
    unfold M_reply_B30 at hF
    refine g_iload (i := 4) K hl dX4_reply_30 rfl ?_
    refine g_aload_n (i := 0) K hl dX4_reply_32 rfl rfl ?_
    refine mget_59 K dX4_reply_33 ?_
    refine g_icmp_ge (tgt := 69) K hF dX4_reply_36 (by decide) (fun hF => ?_) (fun hF => ?_)
    · refine g_iload_n (i := 2) K hl dX4_reply_69 rfl rfl ?_
      exact m_iretW K hF ha dX4_reply_70
    · refine g_aload_n (i := 0) K hl dX4_reply_39 rfl rfl ?_
      refine g_iload (i := 4) K hl dX4_reply_40 rfl ?_
      refine g_iload_n (i := 1) K hl dX4_reply_42 rfl rfl ?_
      refine m_callVW K hl hF ha rfl (fun t h => w_matchOf G _ _ _ t h) rfl cp_matchOf q2257 rfl rfl rfl rfl rfl dX4_reply_43 (fun t2 σ1 hF ha => ?_)
      refine g_istore (i := 5) K hl dX4_reply_46 rfl rfl (fun ls hl => ?_)
      refine g_iload (i := 5) K hl dX4_reply_48 rfl ?_
      refine g_iload_n (i := 3) K hl dX4_reply_50 rfl rfl ?_
      refine g_icmp_gt (tgt := 57) K hF dX4_reply_51 (by decide) (fun hF => ?_) (fun hF => ?_)
      · refine g_iload (i := 4) K hl dX4_reply_57 rfl ?_
        refine g_istore_n (i := 2) K hl dX4_reply_59 rfl rfl rfl (fun ls hl => ?_)
        refine g_iload (i := 5) K hl dX4_reply_60 rfl ?_
        refine g_istore_n (i := 3) K hl dX4_reply_62 rfl rfl rfl (fun ls hl => ?_)
        refine g_iinc (i := 4) K hl dX4_reply_63 rfl lc_1 rfl rfl (fun ls hl => ?_)
        refine g_goto (tgt := 30) K dX4_reply_66 (by decide) ?_
        exact hk30 _ _ _ _ _ ls hF ha (lq_sub hl rfl)
      · refine g_goto (tgt := 63) K dX4_reply_54 (by decide) ?_
        refine g_iinc (i := 4) K hl dX4_reply_63 rfl lc_1 rfl rfl (fun ls hl => ?_)
        refine g_goto (tgt := 30) K dX4_reply_66 (by decide) ?_
        exact hk30 _ _ _ _ _ ls hF ha (lq_sub hl rfl)
  have L30 : ∀  (n : Nat) (σ : MS) (x1 : Int32) (x2 : Int32) (x3 : Int32) (x4 : Int32) (ls : Array Slot), M_reply_L30 G  n σ x1 x2 x3 x4 = some r → ag wr_reply σ0 σ → lq ls 6 [(0, some (.ref qm)), (1, some (.int x1)), (2, some (.int x2)), (3, some (.int x3)), (4, some (.int x4))] → ZM p l e 8 s m args below meth c D cz qm wr_reply σ0 (some (.int r.1)) r.2 σ (F0 m 30 ls []) := by
    intro  n
    induction n with
    | zero => intro σ x1 x2 x3 x4 ls hF; exact absurd hF (fun h => by cases h)
    | succ n ih => intro σ x1 x2 x3 x4 ls hF ha hl; exact B30  _ ih _ _ _ _ _ ls hF ha hl
  have ha : ag wr_reply σ0 σ0 := ag.rf
  unfold M_reply at hF
  refine g_aload_n (i := 0) K hl dX4_reply_0 rfl rfl ?_
  refine g_iload_n (i := 1) K hl dX4_reply_1 rfl rfl ?_
  refine m_callVP K hl hF (fun t h => w_isRule _ _ t h) rfl cp_isRule q2253 rfl rfl rfl rfl rfl dX4_reply_2 (fun t1 hF => ?_)
  refine g_if_eq (tgt := 16) K hF dX4_reply_5 (by decide) (fun hF => ?_) (fun hF => ?_)
  · refine g_iconst K dX4_reply_16 lc_m1 ?_
    exact m_iretW K hF ha dX4_reply_17
  · refine g_aload_n (i := 0) K hl dX4_reply_8 rfl rfl ?_
    refine mget_61 K dX4_reply_9 ?_
    refine g_iconst K dX4_reply_12 lc_2 ?_
    refine g_icmp_ge (tgt := 18) K hF dX4_reply_13 (by decide) (fun hF => ?_) (fun hF => ?_)
    · refine g_iconst K dX4_reply_18 lc_0 ?_
      refine g_istore_n (i := 2) K hl dX4_reply_19 rfl rfl rfl (fun ls hl => ?_)
      refine g_aload_n (i := 0) K hl dX4_reply_20 rfl rfl ?_
      refine g_iconst K dX4_reply_21 lc_0 ?_
      refine g_iload_n (i := 1) K hl dX4_reply_22 rfl rfl ?_
      refine m_callVW K hl hF ha rfl (fun t h => w_matchOf G _ _ _ t h) rfl cp_matchOf q2257 rfl rfl rfl rfl rfl dX4_reply_23 (fun t3 σ2 hF ha => ?_)
      refine g_istore_n (i := 3) K hl dX4_reply_26 rfl rfl rfl (fun ls hl => ?_)
      refine g_iconst K dX4_reply_27 lc_1 ?_
      refine g_istore (i := 4) K hl dX4_reply_28 rfl rfl (fun ls hl => ?_)
      exact L30  G _ _ _ _ _ ls hF ha (lq_sub hl rfl)
    · refine g_iconst K dX4_reply_16 lc_m1 ?_
      exact m_iretW K hF ha dX4_reply_17

theorem cp_doesRest : cpV yX4_doesRest cX4_doesRest 5 (some .boolean) 2 := ⟨q2272, qs138, q152, q2273, by decide +kernel⟩
set_option maxHeartbeats 4000000 in
set_option maxRecDepth 100000 in
theorem w_doesRest {l : Launch} {D : va_G} {cz : Nat → ClassId} {qm : Nat} (G : Nat) (σ0 : MS) (a0 : Int32) (a1 : Int32) (r : Int32) (hF : M_doesRest G σ0 a0 a1 = some r) : mMet l D cz qm yX4_doesRest cX4_doesRest 5 (some .boolean) 0 wr_doesRest [.ref qm, .int a0, .int a1] σ0 (some (.int r)) σ0 := by
  refine m_of (by decide) rfl ?_
  intro p e s m args below meth c ls K hl
  have B5 : ∀ (k5 : Int32 → Int32 → Int32 → Int32 → Option Int32) (hk5 : (∀ (x1 : Int32) (x2 : Int32) (x3 : Int32) (x4 : Int32) (ls : Array Slot), k5 x1 x2 x3 x4 = some r → lq ls 5 [(0, some (.ref qm)), (1, some (.int x1)), (2, some (.int x2)), (3, some (.int x3)), (4, some (.int x4))] → ZM p l e 0 s m args below meth c D cz qm wr_doesRest σ0 (some (.int r)) σ0 σ0 (F0 m 5 ls []))) (x1 : Int32) (x2 : Int32) (x3 : Int32) (x4 : Int32) (ls : Array Slot), M_doesRest_B5 G σ0 k5 x1 x2 x3 x4 = some r → lq ls 5 [(0, some (.ref qm)), (1, some (.int x1)), (2, some (.int x2)), (3, some (.int x3)), (4, some (.int x4))] → ZM p l e 0 s m args below meth c D cz qm wr_doesRest σ0 (some (.int r)) σ0 σ0 (F0 m 5 ls []) := by
    intro k5 hk5 x1 x2 x3 x4 ls hF hl
    unfold M_doesRest_B5 at hF
    refine g_iload (i := 4) K hl dX4_doesRest_5 rfl ?_
    refine g_aload_n (i := 0) K hl dX4_doesRest_7 rfl rfl ?_
    refine mget_59 K dX4_doesRest_8 ?_
    refine g_icmp_ge (tgt := 82) K hF dX4_doesRest_11 (by decide) (fun hF => ?_) (fun hF => ?_)
    · refine g_iload_n (i := 3) K hl dX4_doesRest_82 rfl rfl ?_
      obtain ⟨hz, hF⟩ := bzI_i hF
      exact m_zretP K hF hz ag.rf dX4_doesRest_83
    · refine g_iload_n (i := 3) K hl dX4_doesRest_14 rfl rfl ?_
      refine g_if_eq (tgt := 74) K hF dX4_doesRest_15 (by decide) (fun hF => ?_) (fun hF => ?_)
      · refine g_iconst K dX4_doesRest_74 lc_0 ?_
        refine g_istore_n (i := 3) K hl dX4_doesRest_75 rfl rfl rfl (fun ls hl => ?_)
        refine g_iinc (i := 4) K hl dX4_doesRest_76 rfl lc_1 rfl rfl (fun ls hl => ?_)
        refine g_goto (tgt := 5) K dX4_doesRest_79 (by decide) ?_
        exact hk5 _ _ _ _ ls hF (lq_sub hl rfl)
      · refine g_aload_n (i := 0) K hl dX4_doesRest_18 rfl rfl ?_
        refine mget_84 K dX4_doesRest_19 ?_
        refine g_bipush K dX4_doesRest_22 lb_6 ?_
        refine g_iload (i := 4) K hl dX4_doesRest_24 rfl ?_
        refine g_imul K dX4_doesRest_26 ?_
        refine g_iload_n (i := 2) K hl dX4_doesRest_27 rfl rfl ?_
        refine g_iadd K dX4_doesRest_28 ?_
        refine mld_84 K hF dX4_doesRest_29 (fun t1 hF => ?_)
        refine g_aload_n (i := 0) K hl dX4_doesRest_30 rfl rfl ?_
        refine mget_84 K dX4_doesRest_31 ?_
        refine g_bipush K dX4_doesRest_34 lb_6 ?_
        refine g_iload_n (i := 1) K hl dX4_doesRest_36 rfl rfl ?_
        refine g_imul K dX4_doesRest_37 ?_
        refine g_iload_n (i := 2) K hl dX4_doesRest_38 rfl rfl ?_
        refine g_iadd K dX4_doesRest_39 ?_
        refine mld_84 K hF dX4_doesRest_40 (fun t2 hF => ?_)
        refine g_icmp_gt (tgt := 74) K hF dX4_doesRest_41 (by decide) (fun hF => ?_) (fun hF => ?_)
        · refine g_iconst K dX4_doesRest_74 lc_0 ?_
          refine g_istore_n (i := 3) K hl dX4_doesRest_75 rfl rfl rfl (fun ls hl => ?_)
          refine g_iinc (i := 4) K hl dX4_doesRest_76 rfl lc_1 rfl rfl (fun ls hl => ?_)
          refine g_goto (tgt := 5) K dX4_doesRest_79 (by decide) ?_
          exact hk5 _ _ _ _ ls hF (lq_sub hl rfl)
        · refine g_aload_n (i := 0) K hl dX4_doesRest_44 rfl rfl ?_
          refine mget_84 K dX4_doesRest_45 ?_
          refine g_bipush K dX4_doesRest_48 lb_6 ?_
          refine g_iload_n (i := 1) K hl dX4_doesRest_50 rfl rfl ?_
          refine g_imul K dX4_doesRest_51 ?_
          refine g_iload (i := 4) K hl dX4_doesRest_52 rfl ?_
          refine g_iadd K dX4_doesRest_54 ?_
          refine mld_84 K hF dX4_doesRest_55 (fun t3 hF => ?_)
          refine g_aload_n (i := 0) K hl dX4_doesRest_56 rfl rfl ?_
          refine mget_84 K dX4_doesRest_57 ?_
          refine g_bipush K dX4_doesRest_60 lb_6 ?_
          refine g_iload_n (i := 1) K hl dX4_doesRest_62 rfl rfl ?_
          refine g_imul K dX4_doesRest_63 ?_
          refine g_iload_n (i := 2) K hl dX4_doesRest_64 rfl rfl ?_
          refine g_iadd K dX4_doesRest_65 ?_
          refine mld_84 K hF dX4_doesRest_66 (fun t4 hF => ?_)
          refine g_icmp_lt (tgt := 74) K hF dX4_doesRest_67 (by decide) (fun hF => ?_) (fun hF => ?_)
          · refine g_iconst K dX4_doesRest_74 lc_0 ?_
            refine g_istore_n (i := 3) K hl dX4_doesRest_75 rfl rfl rfl (fun ls hl => ?_)
            refine g_iinc (i := 4) K hl dX4_doesRest_76 rfl lc_1 rfl rfl (fun ls hl => ?_)
            refine g_goto (tgt := 5) K dX4_doesRest_79 (by decide) ?_
            exact hk5 _ _ _ _ ls hF (lq_sub hl rfl)
          · refine g_iconst K dX4_doesRest_70 lc_1 ?_
            refine g_goto (tgt := 75) K dX4_doesRest_71 (by decide) ?_
            refine g_istore_n (i := 3) K hl dX4_doesRest_75 rfl rfl rfl (fun ls hl => ?_)
            refine g_iinc (i := 4) K hl dX4_doesRest_76 rfl lc_1 rfl rfl (fun ls hl => ?_)
            refine g_goto (tgt := 5) K dX4_doesRest_79 (by decide) ?_
            exact hk5 _ _ _ _ ls hF (lq_sub hl rfl)
  have L5 : ∀  (n : Nat) (x1 : Int32) (x2 : Int32) (x3 : Int32) (x4 : Int32) (ls : Array Slot), M_doesRest_L5 G σ0  n x1 x2 x3 x4 = some r → lq ls 5 [(0, some (.ref qm)), (1, some (.int x1)), (2, some (.int x2)), (3, some (.int x3)), (4, some (.int x4))] → ZM p l e 0 s m args below meth c D cz qm wr_doesRest σ0 (some (.int r)) σ0 σ0 (F0 m 5 ls []) := by
    intro  n
    induction n with
    | zero => intro x1 x2 x3 x4 ls hF; exact absurd hF (fun h => by cases h)
    | succ n ih => intro x1 x2 x3 x4 ls hF hl; exact B5  _ ih _ _ _ _ ls hF hl
  unfold M_doesRest at hF
  refine g_iconst K dX4_doesRest_0 lc_1 ?_
  refine g_istore_n (i := 3) K hl dX4_doesRest_1 rfl rfl rfl (fun ls hl => ?_)
  refine g_iconst K dX4_doesRest_2 lc_0 ?_
  refine g_istore (i := 4) K hl dX4_doesRest_3 rfl rfl (fun ls hl => ?_)
  exact L5  G _ _ _ _ ls hF (lq_sub hl rfl)

theorem cp_rests : cpV yX4_rests cX4_rests 3 (some .int) 0 := ⟨q2267, q2268, q152, q2269, by decide +kernel⟩
set_option maxHeartbeats 4000000 in
set_option maxRecDepth 100000 in
theorem w_rests {l : Launch} {D : va_G} {cz : Nat → ClassId} {qm : Nat} (G : Nat) (σ0 : MS)  (r : (Int32 × MS)) (hF : M_rests G σ0 = some r) : mMet l D cz qm yX4_rests cX4_rests 3 (some .int) 8 wr_rests [.ref qm] σ0 (some (.int r.1)) r.2 := by
  refine m_of (by decide) rfl ?_
  intro p e s m args below meth c ls K hl
  have B76 : ∀ (k66 : MS → Int32 → Option (Int32 × MS)) (hk66 : (∀ (σ : MS) (x1 : Int32) (ls : Array Slot), k66 σ x1 = some r → ag wr_rests σ0 σ → lq ls 3 [(0, some (.ref qm)), (1, some (.int x1))] → ZM p l e 8 s m args below meth c D cz qm wr_rests σ0 (some (.int r.1)) r.2 σ (F0 m 66 ls []))) (k76 : MS → Int32 → Int32 → Option (Int32 × MS)) (hk76 : (∀ (σ : MS) (x1 : Int32) (x2 : Int32) (ls : Array Slot), k76 σ x1 x2 = some r → ag wr_rests σ0 σ → lq ls 3 [(0, some (.ref qm)), (1, some (.int x1)), (2, some (.int x2))] → ZM p l e 8 s m args below meth c D cz qm wr_rests σ0 (some (.int r.1)) r.2 σ (F0 m 76 ls []))) (σ : MS) (x1 : Int32) (x2 : Int32) (ls : Array Slot), M_rests_B76 G k66 k76 σ x1 x2 = some r → ag wr_rests σ0 σ → lq ls 3 [(0, some (.ref qm)), (1, some (.int x1)), (2, some (.int x2))] → ZM p l e 8 s m args below meth c D cz qm wr_rests σ0 (some (.int r.1)) r.2 σ (F0 m 76 ls []) := by
    intro k66 hk66 k76 hk76 σ x1 x2 ls hF ha hl
    unfold M_rests_B76 at hF
    refine g_iload_n (i := 2) K hl dX4_rests_76 rfl rfl ?_
    refine g_aload_n (i := 0) K hl dX4_rests_77 rfl rfl ?_
    refine mget_59 K dX4_rests_78 ?_
    refine g_icmp_ge (tgt := 127) K hF dX4_rests_81 (by decide) (fun hF => ?_) (fun hF => ?_)
    · refine g_iinc (i := 1) K hl dX4_rests_127 rfl lc_1 rfl rfl (fun ls hl => ?_)
      refine g_goto (tgt := 66) K dX4_rests_130 (by decide) ?_
      exact hk66 _ _ ls hF ha (lq_sub hl rfl)
    · refine g_aload_n (i := 0) K hl dX4_rests_84 rfl rfl ?_
      refine g_iload_n (i := 1) K hl dX4_rests_85 rfl rfl ?_
      refine g_iload_n (i := 2) K hl dX4_rests_86 rfl rfl ?_
      refine m_callVP K hl hF (fun t h => w_doesRest G _ _ _ t h) rfl cp_doesRest q2270 rfl rfl rfl rfl rfl dX4_rests_87 (fun t1 hF => ?_)
      refine g_if_ne (tgt := 96) K hF dX4_rests_90 (by decide) (fun hF => ?_) (fun hF => ?_)
      · refine g_aload_n (i := 0) K hl dX4_rests_96 rfl rfl ?_
        refine mget_83 K dX4_rests_97 ?_
        refine g_aload_n (i := 0) K hl dX4_rests_100 rfl rfl ?_
        refine mget_85 K dX4_rests_101 ?_
        refine g_bipush K dX4_rests_104 lb_10 ?_
        refine g_iload_n (i := 1) K hl dX4_rests_106 rfl rfl ?_
        refine g_imul K dX4_rests_107 ?_
        refine g_iload_n (i := 2) K hl dX4_rests_108 rfl rfl ?_
        refine g_iadd K dX4_rests_109 ?_
        refine mst_83 K hF ha rfl dX4_rests_110 (fun σ2 hF ha => ?_)
        refine g_aload_n (i := 0) K hl dX4_rests_111 rfl rfl ?_
        refine g_dup K dX4_rests_112 rfl ?_
        refine mget_85 K dX4_rests_113 ?_
        refine g_iconst K dX4_rests_116 lc_1 ?_
        refine g_iadd K dX4_rests_117 ?_
        refine mput_85 K hF ha rfl dX4_rests_118 (fun σ3 hF ha => ?_)
        refine g_iinc (i := 2) K hl dX4_rests_121 rfl lc_1 rfl rfl (fun ls hl => ?_)
        refine g_goto (tgt := 76) K dX4_rests_124 (by decide) ?_
        exact hk76 _ _ _ ls hF ha (lq_sub hl rfl)
      · refine g_goto (tgt := 121) K dX4_rests_93 (by decide) ?_
        refine g_iinc (i := 2) K hl dX4_rests_121 rfl lc_1 rfl rfl (fun ls hl => ?_)
        refine g_goto (tgt := 76) K dX4_rests_124 (by decide) ?_
        exact hk76 _ _ _ ls hF ha (lq_sub hl rfl)
  have L76 : ∀ (k66 : MS → Int32 → Option (Int32 × MS)) (hk66 : (∀ (σ : MS) (x1 : Int32) (ls : Array Slot), k66 σ x1 = some r → ag wr_rests σ0 σ → lq ls 3 [(0, some (.ref qm)), (1, some (.int x1))] → ZM p l e 8 s m args below meth c D cz qm wr_rests σ0 (some (.int r.1)) r.2 σ (F0 m 66 ls []))) (n : Nat) (σ : MS) (x1 : Int32) (x2 : Int32) (ls : Array Slot), M_rests_L76 G k66 n σ x1 x2 = some r → ag wr_rests σ0 σ → lq ls 3 [(0, some (.ref qm)), (1, some (.int x1)), (2, some (.int x2))] → ZM p l e 8 s m args below meth c D cz qm wr_rests σ0 (some (.int r.1)) r.2 σ (F0 m 76 ls []) := by
    intro k66 hk66 n
    induction n with
    | zero => intro σ x1 x2 ls hF; exact absurd hF (fun h => by cases h)
    | succ n ih => intro σ x1 x2 ls hF ha hl; exact B76 k66 hk66 _ ih _ _ _ ls hF ha hl
  have B66 : ∀ (k66 : MS → Int32 → Option (Int32 × MS)) (hk66 : (∀ (σ : MS) (x1 : Int32) (ls : Array Slot), k66 σ x1 = some r → ag wr_rests σ0 σ → lq ls 3 [(0, some (.ref qm)), (1, some (.int x1))] → ZM p l e 8 s m args below meth c D cz qm wr_rests σ0 (some (.int r.1)) r.2 σ (F0 m 66 ls []))) (σ : MS) (x1 : Int32) (ls : Array Slot), M_rests_B66 G k66 σ x1 = some r → ag wr_rests σ0 σ → lq ls 3 [(0, some (.ref qm)), (1, some (.int x1))] → ZM p l e 8 s m args below meth c D cz qm wr_rests σ0 (some (.int r.1)) r.2 σ (F0 m 66 ls []) := by
    intro k66 hk66 σ x1 ls hF ha hl
    unfold M_rests_B66 at hF
    refine g_iload_n (i := 1) K hl dX4_rests_66 rfl rfl ?_
    refine g_aload_n (i := 0) K hl dX4_rests_67 rfl rfl ?_
    refine mget_59 K dX4_rests_68 ?_
    refine g_icmp_ge (tgt := 133) K hF dX4_rests_71 (by decide) (fun hF => ?_) (fun hF => ?_)
    · refine g_aload_n (i := 0) K hl dX4_rests_133 rfl rfl ?_
      refine mget_85 K dX4_rests_134 ?_
      exact m_iretW K hF ha dX4_rests_137
    · refine g_iconst K dX4_rests_74 lc_0 ?_
      refine g_istore_n (i := 2) K hl dX4_rests_75 rfl rfl rfl (fun ls hl => ?_)
      exact L76 k66 hk66 G _ _ _ ls hF ha (lq_sub hl rfl)
  have L66 : ∀  (n : Nat) (σ : MS) (x1 : Int32) (ls : Array Slot), M_rests_L66 G  n σ x1 = some r → ag wr_rests σ0 σ → lq ls 3 [(0, some (.ref qm)), (1, some (.int x1))] → ZM p l e 8 s m args below meth c D cz qm wr_rests σ0 (some (.int r.1)) r.2 σ (F0 m 66 ls []) := by
    intro  n
    induction n with
    | zero => intro σ x1 ls hF; exact absurd hF (fun h => by cases h)
    | succ n ih => intro σ x1 ls hF ha hl; exact B66  _ ih _ _ ls hF ha hl
  have B27 : ∀ (k17 : MS → Int32 → Option (Int32 × MS)) (hk17 : (∀ (σ : MS) (x1 : Int32) (ls : Array Slot), k17 σ x1 = some r → ag wr_rests σ0 σ → lq ls 3 [(0, some (.ref qm)), (1, some (.int x1))] → ZM p l e 8 s m args below meth c D cz qm wr_rests σ0 (some (.int r.1)) r.2 σ (F0 m 17 ls []))) (k27 : MS → Int32 → Int32 → Option (Int32 × MS)) (hk27 : (∀ (σ : MS) (x1 : Int32) (x2 : Int32) (ls : Array Slot), k27 σ x1 x2 = some r → ag wr_rests σ0 σ → lq ls 3 [(0, some (.ref qm)), (1, some (.int x1)), (2, some (.int x2))] → ZM p l e 8 s m args below meth c D cz qm wr_rests σ0 (some (.int r.1)) r.2 σ (F0 m 27 ls []))) (σ : MS) (x1 : Int32) (x2 : Int32) (ls : Array Slot), M_rests_B27 G k17 k27 σ x1 x2 = some r → ag wr_rests σ0 σ → lq ls 3 [(0, some (.ref qm)), (1, some (.int x1)), (2, some (.int x2))] → ZM p l e 8 s m args below meth c D cz qm wr_rests σ0 (some (.int r.1)) r.2 σ (F0 m 27 ls []) := by
    intro k17 hk17 k27 hk27 σ x1 x2 ls hF ha hl
    unfold M_rests_B27 at hF
    refine g_iload_n (i := 2) K hl dX4_rests_27 rfl rfl ?_
    refine g_aload_n (i := 0) K hl dX4_rests_28 rfl rfl ?_
    refine mget_59 K dX4_rests_29 ?_
    refine g_icmp_ge (tgt := 58) K hF dX4_rests_32 (by decide) (fun hF => ?_) (fun hF => ?_)
    · refine g_iinc (i := 1) K hl dX4_rests_58 rfl lc_1 rfl rfl (fun ls hl => ?_)
      refine g_goto (tgt := 17) K dX4_rests_61 (by decide) ?_
      exact hk17 _ _ ls hF ha (lq_sub hl rfl)
    · refine g_aload_n (i := 0) K hl dX4_rests_35 rfl rfl ?_
      refine mget_84 K dX4_rests_36 ?_
      refine g_bipush K dX4_rests_39 lb_6 ?_
      refine g_iload_n (i := 1) K hl dX4_rests_41 rfl rfl ?_
      refine g_imul K dX4_rests_42 ?_
      refine g_iload_n (i := 2) K hl dX4_rests_43 rfl rfl ?_
      refine g_iadd K dX4_rests_44 ?_
      refine g_aload_n (i := 0) K hl dX4_rests_45 rfl rfl ?_
      refine g_iload_n (i := 1) K hl dX4_rests_46 rfl rfl ?_
      refine g_iload_n (i := 2) K hl dX4_rests_47 rfl rfl ?_
      refine m_callVW K hl hF ha rfl (fun t h => w_matchOf G _ _ _ t h) rfl cp_matchOf q2257 rfl rfl rfl rfl rfl dX4_rests_48 (fun t2 σ1 hF ha => ?_)
      refine mst_84 K hF ha rfl dX4_rests_51 (fun σ3 hF ha => ?_)
      refine g_iinc (i := 2) K hl dX4_rests_52 rfl lc_1 rfl rfl (fun ls hl => ?_)
      refine g_goto (tgt := 27) K dX4_rests_55 (by decide) ?_
      exact hk27 _ _ _ ls hF ha (lq_sub hl rfl)
  have L27 : ∀ (k17 : MS → Int32 → Option (Int32 × MS)) (hk17 : (∀ (σ : MS) (x1 : Int32) (ls : Array Slot), k17 σ x1 = some r → ag wr_rests σ0 σ → lq ls 3 [(0, some (.ref qm)), (1, some (.int x1))] → ZM p l e 8 s m args below meth c D cz qm wr_rests σ0 (some (.int r.1)) r.2 σ (F0 m 17 ls []))) (n : Nat) (σ : MS) (x1 : Int32) (x2 : Int32) (ls : Array Slot), M_rests_L27 G k17 n σ x1 x2 = some r → ag wr_rests σ0 σ → lq ls 3 [(0, some (.ref qm)), (1, some (.int x1)), (2, some (.int x2))] → ZM p l e 8 s m args below meth c D cz qm wr_rests σ0 (some (.int r.1)) r.2 σ (F0 m 27 ls []) := by
    intro k17 hk17 n
    induction n with
    | zero => intro σ x1 x2 ls hF; exact absurd hF (fun h => by cases h)
    | succ n ih => intro σ x1 x2 ls hF ha hl; exact B27 k17 hk17 _ ih _ _ _ ls hF ha hl
  have B17 : ∀ (k17 : MS → Int32 → Option (Int32 × MS)) (hk17 : (∀ (σ : MS) (x1 : Int32) (ls : Array Slot), k17 σ x1 = some r → ag wr_rests σ0 σ → lq ls 3 [(0, some (.ref qm)), (1, some (.int x1))] → ZM p l e 8 s m args below meth c D cz qm wr_rests σ0 (some (.int r.1)) r.2 σ (F0 m 17 ls []))) (σ : MS) (x1 : Int32) (ls : Array Slot), M_rests_B17 G k17 σ x1 = some r → ag wr_rests σ0 σ → lq ls 3 [(0, some (.ref qm)), (1, some (.int x1))] → ZM p l e 8 s m args below meth c D cz qm wr_rests σ0 (some (.int r.1)) r.2 σ (F0 m 17 ls []) := by
    intro k17 hk17 σ x1 ls hF ha hl
    unfold M_rests_B17 at hF
    refine g_iload_n (i := 1) K hl dX4_rests_17 rfl rfl ?_
    refine g_aload_n (i := 0) K hl dX4_rests_18 rfl rfl ?_
    refine mget_59 K dX4_rests_19 ?_
    refine g_icmp_ge (tgt := 64) K hF dX4_rests_22 (by decide) (fun hF => ?_) (fun hF => ?_)
    · refine g_iconst K dX4_rests_64 lc_0 ?_
      refine g_istore_n (i := 1) K hl dX4_rests_65 rfl rfl rfl (fun ls hl => ?_)
      exact L66  G _ _ ls hF ha (lq_sub hl rfl)
    · refine g_iconst K dX4_rests_25 lc_0 ?_
      refine g_istore_n (i := 2) K hl dX4_rests_26 rfl rfl rfl (fun ls hl => ?_)
      exact L27 k17 hk17 G _ _ _ ls hF ha (lq_sub hl rfl)
  have L17 : ∀  (n : Nat) (σ : MS) (x1 : Int32) (ls : Array Slot), M_rests_L17 G  n σ x1 = some r → ag wr_rests σ0 σ → lq ls 3 [(0, some (.ref qm)), (1, some (.int x1))] → ZM p l e 8 s m args below meth c D cz qm wr_rests σ0 (some (.int r.1)) r.2 σ (F0 m 17 ls []) := by
    intro  n
    induction n with
    | zero => intro σ x1 ls hF; exact absurd hF (fun h => by cases h)
    | succ n ih => intro σ x1 ls hF ha hl; exact B17  _ ih _ _ ls hF ha hl
  have ha : ag wr_rests σ0 σ0 := ag.rf
  unfold M_rests at hF
  refine g_aload_n (i := 0) K hl dX4_rests_0 rfl rfl ?_
  refine g_iconst K dX4_rests_1 lc_0 ?_
  refine mput_85 K hF ha rfl dX4_rests_2 (fun σ1 hF ha => ?_)
  refine g_aload_n (i := 0) K hl dX4_rests_5 rfl rfl ?_
  refine mget_61 K dX4_rests_6 ?_
  refine g_iconst K dX4_rests_9 lc_2 ?_
  refine g_icmp_ge (tgt := 15) K hF dX4_rests_10 (by decide) (fun hF => ?_) (fun hF => ?_)
  · refine g_iconst K dX4_rests_15 lc_0 ?_
    refine g_istore_n (i := 1) K hl dX4_rests_16 rfl rfl rfl (fun ls hl => ?_)
    exact L17  G _ _ ls hF ha (lq_sub hl rfl)
  · refine g_iconst K dX4_rests_13 lc_0 ?_
    exact m_iretW K hF ha dX4_rests_14

theorem cp_comes : cpV yX4_comes cX4_comes 7 (some .boolean) 5 := ⟨q2280, qs139, q152, q2281, by decide +kernel⟩
set_option maxHeartbeats 4000000 in
set_option maxRecDepth 100000 in
theorem w_comes {l : Launch} {D : va_G} {cz : Nat → ClassId} {qm : Nat} (G : Nat) (σ0 : MS) (a0 : Int32) (a1 : Int32) (a2 : Int32) (a3 : Int32) (a4 : Int32) (r : (Int32 × MS)) (hF : M_comes G σ0 a0 a1 a2 a3 a4 = some r) : mMet l D cz qm yX4_comes cX4_comes 7 (some .boolean) 4 wr_comes [.ref qm, .int a0, .int a1, .int a2, .int a3, .int a4] σ0 (some (.int r.1)) r.2 := by
  refine m_of (by decide) rfl ?_
  intro p e s m args below meth c ls K hl
  have B10 : ∀ (k10 : MS → Int32 → Int32 → Int32 → Int32 → Int32 → Option (Int32 × MS)) (hk10 : (∀ (σ : MS) (x1 : Int32) (x2 : Int32) (x3 : Int32) (x5 : Int32) (x6 : Int32) (ls : Array Slot), k10 σ x1 x2 x3 x5 x6 = some r → ag wr_comes σ0 σ → lq ls 7 [(0, some (.ref qm)), (1, some (.int x1)), (2, some (.int x2)), (3, some (.int x3)), (5, some (.int x5)), (6, some (.int x6))] → ZM p l e 4 s m args below meth c D cz qm wr_comes σ0 (some (.int r.1)) r.2 σ (F0 m 10 ls []))) (σ : MS) (x1 : Int32) (x2 : Int32) (x3 : Int32) (x5 : Int32) (x6 : Int32) (ls : Array Slot), M_comes_B10 G k10 σ x1 x2 x3 x5 x6 = some r → ag wr_comes σ0 σ → lq ls 7 [(0, some (.ref qm)), (1, some (.int x1)), (2, some (.int x2)), (3, some (.int x3)), (5, some (.int x5)), (6, some (.int x6))] → ZM p l e 4 s m args below meth c D cz qm wr_comes σ0 (some (.int r.1)) r.2 σ (F0 m 10 ls []) := by
    intro k10 hk10 σ x1 x2 x3 x5 x6 ls hF ha hl
    unfold M_comes_B10 at hF
    refine g_iload (i := 6) K hl dX4_comes_10 rfl ?_
    refine g_if_lt (tgt := 35) K hF dX4_comes_12 (by decide) (fun hF => ?_) (fun hF => ?_)
    · refine g_aload_n (i := 0) K hl dX4_comes_35 rfl rfl ?_
      refine mget_66 K dX4_comes_36 ?_
      refine g_iconst K dX4_comes_39 lc_5 ?_
      refine g_iload_n (i := 1) K hl dX4_comes_40 rfl rfl ?_
      refine g_imul K dX4_comes_41 ?_
      refine mld_66 K hF dX4_comes_42 (fun t1 hF => ?_)
      refine g_iload_n (i := 2) K hl dX4_comes_43 rfl rfl ?_
      refine g_icmp_ne (tgt := 65) K hF dX4_comes_44 (by decide) (fun hF => ?_) (fun hF => ?_)
      · refine g_iconst K dX4_comes_65 lc_0 ?_
        exact m_zretW K hF (Or.inl rfl) ha dX4_comes_66
      · refine g_aload_n (i := 0) K hl dX4_comes_47 rfl rfl ?_
        refine mget_66 K dX4_comes_48 ?_
        refine g_iconst K dX4_comes_51 lc_5 ?_
        refine g_iload_n (i := 1) K hl dX4_comes_52 rfl rfl ?_
        refine g_imul K dX4_comes_53 ?_
        refine g_iconst K dX4_comes_54 lc_1 ?_
        refine g_iadd K dX4_comes_55 ?_
        refine mld_66 K hF dX4_comes_56 (fun t2 hF => ?_)
        refine g_iload_n (i := 3) K hl dX4_comes_57 rfl rfl ?_
        refine g_icmp_ne (tgt := 65) K hF dX4_comes_58 (by decide) (fun hF => ?_) (fun hF => ?_)
        · refine g_iconst K dX4_comes_65 lc_0 ?_
          exact m_zretW K hF (Or.inl rfl) ha dX4_comes_66
        · refine g_iconst K dX4_comes_61 lc_1 ?_
          refine g_goto (tgt := 66) K dX4_comes_62 (by decide) ?_
          exact m_zretW K hF (Or.inr rfl) ha dX4_comes_66
    · refine g_aload_n (i := 0) K hl dX4_comes_15 rfl rfl ?_
      refine g_iload (i := 5) K hl dX4_comes_16 rfl ?_
      refine g_iconst K dX4_comes_18 lc_2 ?_
      refine g_iload (i := 6) K hl dX4_comes_19 rfl ?_
      refine g_imul K dX4_comes_21 ?_
      refine g_ishr K dX4_comes_22 ?_
      refine g_iconst K dX4_comes_23 lc_3 ?_
      refine g_iand K dX4_comes_24 ?_
      refine m_callVW K hl hF ha rfl (fun t h => w_wavesTo G _ _ t h) rfl cp_wavesTo q2141 rfl rfl rfl rfl rfl dX4_comes_25 (fun t4 σ3 hF ha => ?_)
      refine g_pop K dX4_comes_28 rfl ?_
      refine g_iinc (i := 6) K hl dX4_comes_29 rfl lc_m1 rfl rfl (fun ls hl => ?_)
      refine g_goto (tgt := 10) K dX4_comes_32 (by decide) ?_
      exact hk10 _ _ _ _ _ _ ls hF ha (lq_sub hl rfl)
  have L10 : ∀  (n : Nat) (σ : MS) (x1 : Int32) (x2 : Int32) (x3 : Int32) (x5 : Int32) (x6 : Int32) (ls : Array Slot), M_comes_L10 G  n σ x1 x2 x3 x5 x6 = some r → ag wr_comes σ0 σ → lq ls 7 [(0, some (.ref qm)), (1, some (.int x1)), (2, some (.int x2)), (3, some (.int x3)), (5, some (.int x5)), (6, some (.int x6))] → ZM p l e 4 s m args below meth c D cz qm wr_comes σ0 (some (.int r.1)) r.2 σ (F0 m 10 ls []) := by
    intro  n
    induction n with
    | zero => intro σ x1 x2 x3 x5 x6 ls hF; exact absurd hF (fun h => by cases h)
    | succ n ih => intro σ x1 x2 x3 x5 x6 ls hF ha hl; exact B10  _ ih _ _ _ _ _ _ ls hF ha hl
  have ha : ag wr_comes σ0 σ0 := ag.rf
  unfold M_comes at hF
  refine g_aload_n (i := 0) K hl dX4_comes_0 rfl rfl ?_
  refine m_callVV K hl hF ha rfl (fun t h => w_load G _  t h) rfl cp_load q2027 rfl rfl rfl rfl rfl dX4_comes_1 (fun σ1 hF ha => ?_)
  refine g_iload (i := 4) K hl dX4_comes_4 rfl ?_
  refine g_iconst K dX4_comes_6 lc_1 ?_
  refine g_isub K dX4_comes_7 ?_
  refine g_istore (i := 6) K hl dX4_comes_8 rfl rfl (fun ls hl => ?_)
  exact L10  G _ _ _ _ _ _ ls hF ha (lq_sub hl rfl)

theorem cp_waves : cpV yX4_waves cX4_waves 7 (some .int) 3 := ⟨q2275, q2276, q152, q2277, by decide +kernel⟩
set_option maxHeartbeats 4000000 in
set_option maxRecDepth 100000 in
theorem w_waves {l : Launch} {D : va_G} {cz : Nat → ClassId} {qm : Nat} (G : Nat) (σ0 : MS) (a0 : Int32) (a1 : Int32) (a2 : Int32) (r : (Int32 × MS)) (hF : M_waves G σ0 a0 a1 a2 = some r) : mMet l D cz qm yX4_waves cX4_waves 7 (some .int) 5 wr_waves [.ref qm, .int a0, .int a1, .int a2] σ0 (some (.int r.1)) r.2 := by
  refine m_of (by decide) rfl ?_
  intro p e s m args below meth c ls K hl
  have B81 : ∀ (k81 : MS → Int32 → Int32 → Int32 → Option (Int32 × MS)) (hk81 : (∀ (σ : MS) (x4 : Int32) (x5 : Int32) (x6 : Int32) (ls : Array Slot), k81 σ x4 x5 x6 = some r → ag wr_waves σ0 σ → lq ls 7 [(0, some (.ref qm)), (4, some (.int x4)), (5, some (.int x5)), (6, some (.int x6))] → ZM p l e 5 s m args below meth c D cz qm wr_waves σ0 (some (.int r.1)) r.2 σ (F0 m 81 ls []))) (σ : MS) (x4 : Int32) (x5 : Int32) (x6 : Int32) (ls : Array Slot), M_waves_B81 G k81 σ x4 x5 x6 = some r → ag wr_waves σ0 σ → lq ls 7 [(0, some (.ref qm)), (4, some (.int x4)), (5, some (.int x5)), (6, some (.int x6))] → ZM p l e 5 s m args below meth c D cz qm wr_waves σ0 (some (.int r.1)) r.2 σ (F0 m 81 ls []) := by
    intro k81 hk81 σ x4 x5 x6 ls hF ha hl
    unfold M_waves_B81 at hF
    refine g_iload (i := 6) K hl dX4_waves_81 rfl ?_
    refine g_iload (i := 4) K hl dX4_waves_83 rfl ?_
    refine g_icmp_ge (tgt := 115) K hF dX4_waves_85 (by decide) (fun hF => ?_) (fun hF => ?_)
    · refine g_aload_n (i := 0) K hl dX4_waves_115 rfl rfl ?_
      refine g_iload (i := 4) K hl dX4_waves_116 rfl ?_
      refine mput_85 K hF ha rfl dX4_waves_118 (fun σ1 hF ha => ?_)
      refine g_iload (i := 4) K hl dX4_waves_121 rfl ?_
      exact m_iretW K hF ha dX4_waves_123
    · refine g_aload_n (i := 0) K hl dX4_waves_88 rfl rfl ?_
      refine mget_83 K dX4_waves_89 ?_
      refine g_iload (i := 6) K hl dX4_waves_92 rfl ?_
      refine g_iload (i := 5) K hl dX4_waves_94 rfl ?_
      refine g_iconst K dX4_waves_96 lc_2 ?_
      refine g_iload (i := 4) K hl dX4_waves_97 rfl ?_
      refine g_iconst K dX4_waves_99 lc_1 ?_
      refine g_isub K dX4_waves_100 ?_
      refine g_iload (i := 6) K hl dX4_waves_101 rfl ?_
      refine g_isub K dX4_waves_103 ?_
      refine g_imul K dX4_waves_104 ?_
      refine g_ishr K dX4_waves_105 ?_
      refine g_iconst K dX4_waves_106 lc_3 ?_
      refine g_iand K dX4_waves_107 ?_
      refine mst_83 K hF ha rfl dX4_waves_108 (fun σ2 hF ha => ?_)
      refine g_iinc (i := 6) K hl dX4_waves_109 rfl lc_1 rfl rfl (fun ls hl => ?_)
      refine g_goto (tgt := 81) K dX4_waves_112 (by decide) ?_
      exact hk81 _ _ _ _ ls hF ha (lq_sub hl rfl)
  have L81 : ∀  (n : Nat) (σ : MS) (x4 : Int32) (x5 : Int32) (x6 : Int32) (ls : Array Slot), M_waves_L81 G  n σ x4 x5 x6 = some r → ag wr_waves σ0 σ → lq ls 7 [(0, some (.ref qm)), (4, some (.int x4)), (5, some (.int x5)), (6, some (.int x6))] → ZM p l e 5 s m args below meth c D cz qm wr_waves σ0 (some (.int r.1)) r.2 σ (F0 m 81 ls []) := by
    intro  n
    induction n with
    | zero => intro σ x4 x5 x6 ls hF; exact absurd hF (fun h => by cases h)
    | succ n ih => intro σ x4 x5 x6 ls hF ha hl; exact B81  _ ih _ _ _ _ ls hF ha hl
  have B50 : ∀ (k40 : MS → Int32 → Int32 → Int32 → Int32 → Option (Int32 × MS)) (hk40 : (∀ (σ : MS) (x1 : Int32) (x2 : Int32) (x3 : Int32) (x4 : Int32) (ls : Array Slot), k40 σ x1 x2 x3 x4 = some r → ag wr_waves σ0 σ → lq ls 7 [(0, some (.ref qm)), (1, some (.int x1)), (2, some (.int x2)), (3, some (.int x3)), (4, some (.int x4))] → ZM p l e 5 s m args below meth c D cz qm wr_waves σ0 (some (.int r.1)) r.2 σ (F0 m 40 ls []))) (k50 : MS → Int32 → Int32 → Int32 → Int32 → Int32 → Option (Int32 × MS)) (hk50 : (∀ (σ : MS) (x1 : Int32) (x2 : Int32) (x3 : Int32) (x4 : Int32) (x5 : Int32) (ls : Array Slot), k50 σ x1 x2 x3 x4 x5 = some r → ag wr_waves σ0 σ → lq ls 7 [(0, some (.ref qm)), (1, some (.int x1)), (2, some (.int x2)), (3, some (.int x3)), (4, some (.int x4)), (5, some (.int x5))] → ZM p l e 5 s m args below meth c D cz qm wr_waves σ0 (some (.int r.1)) r.2 σ (F0 m 50 ls []))) (σ : MS) (x1 : Int32) (x2 : Int32) (x3 : Int32) (x4 : Int32) (x5 : Int32) (ls : Array Slot), M_waves_B50 G k40 k50 σ x1 x2 x3 x4 x5 = some r → ag wr_waves σ0 σ → lq ls 7 [(0, some (.ref qm)), (1, some (.int x1)), (2, some (.int x2)), (3, some (.int x3)), (4, some (.int x4)), (5, some (.int x5))] → ZM p l e 5 s m args below meth c D cz qm wr_waves σ0 (some (.int r.1)) r.2 σ (F0 m 50 ls []) := by
    intro k40 hk40 k50 hk50 σ x1 x2 x3 x4 x5 ls hF ha hl
    unfold M_waves_B50 at hF
    refine g_iload (i := 5) K hl dX4_waves_50 rfl ?_
    refine g_iconst K dX4_waves_52 lc_1 ?_
    refine g_iconst K dX4_waves_53 lc_2 ?_
    refine g_iload (i := 4) K hl dX4_waves_54 rfl ?_
    refine g_imul K dX4_waves_56 ?_
    refine g_ishl K dX4_waves_57 ?_
    refine g_icmp_ge (tgt := 130) K hF dX4_waves_58 (by decide) (fun hF => ?_) (fun hF => ?_)
    · refine g_iinc (i := 4) K hl dX4_waves_130 rfl lc_1 rfl rfl (fun ls hl => ?_)
      refine g_goto (tgt := 40) K dX4_waves_133 (by decide) ?_
      exact hk40 _ _ _ _ _ ls hF ha (lq_sub hl rfl)
    · refine g_aload_n (i := 0) K hl dX4_waves_61 rfl rfl ?_
      refine g_iload_n (i := 1) K hl dX4_waves_62 rfl rfl ?_
      refine g_iload_n (i := 2) K hl dX4_waves_63 rfl rfl ?_
      refine g_iload_n (i := 3) K hl dX4_waves_64 rfl rfl ?_
      refine g_iload (i := 4) K hl dX4_waves_65 rfl ?_
      refine g_iload (i := 5) K hl dX4_waves_67 rfl ?_
      refine m_callVW K hl hF ha rfl (fun t h => w_comes G _ _ _ _ _ _ t h) rfl cp_comes q2278 rfl rfl rfl rfl rfl dX4_waves_69 (fun t2 σ1 hF ha => ?_)
      refine g_if_ne (tgt := 78) K hF dX4_waves_72 (by decide) (fun hF => ?_) (fun hF => ?_)
      · refine g_iconst K dX4_waves_78 lc_0 ?_
        refine g_istore (i := 6) K hl dX4_waves_79 rfl rfl (fun ls hl => ?_)
        exact L81  G _ _ _ _ ls hF ha (lq_sub hl rfl)
      · refine g_goto (tgt := 124) K dX4_waves_75 (by decide) ?_
        refine g_iinc (i := 5) K hl dX4_waves_124 rfl lc_1 rfl rfl (fun ls hl => ?_)
        refine g_goto (tgt := 50) K dX4_waves_127 (by decide) ?_
        exact hk50 _ _ _ _ _ _ ls hF ha (lq_sub hl rfl)
  have L50 : ∀ (k40 : MS → Int32 → Int32 → Int32 → Int32 → Option (Int32 × MS)) (hk40 : (∀ (σ : MS) (x1 : Int32) (x2 : Int32) (x3 : Int32) (x4 : Int32) (ls : Array Slot), k40 σ x1 x2 x3 x4 = some r → ag wr_waves σ0 σ → lq ls 7 [(0, some (.ref qm)), (1, some (.int x1)), (2, some (.int x2)), (3, some (.int x3)), (4, some (.int x4))] → ZM p l e 5 s m args below meth c D cz qm wr_waves σ0 (some (.int r.1)) r.2 σ (F0 m 40 ls []))) (n : Nat) (σ : MS) (x1 : Int32) (x2 : Int32) (x3 : Int32) (x4 : Int32) (x5 : Int32) (ls : Array Slot), M_waves_L50 G k40 n σ x1 x2 x3 x4 x5 = some r → ag wr_waves σ0 σ → lq ls 7 [(0, some (.ref qm)), (1, some (.int x1)), (2, some (.int x2)), (3, some (.int x3)), (4, some (.int x4)), (5, some (.int x5))] → ZM p l e 5 s m args below meth c D cz qm wr_waves σ0 (some (.int r.1)) r.2 σ (F0 m 50 ls []) := by
    intro k40 hk40 n
    induction n with
    | zero => intro σ x1 x2 x3 x4 x5 ls hF; exact absurd hF (fun h => by cases h)
    | succ n ih => intro σ x1 x2 x3 x4 x5 ls hF ha hl; exact B50 k40 hk40 _ ih _ _ _ _ _ _ ls hF ha hl
  have B40 : ∀ (k40 : MS → Int32 → Int32 → Int32 → Int32 → Option (Int32 × MS)) (hk40 : (∀ (σ : MS) (x1 : Int32) (x2 : Int32) (x3 : Int32) (x4 : Int32) (ls : Array Slot), k40 σ x1 x2 x3 x4 = some r → ag wr_waves σ0 σ → lq ls 7 [(0, some (.ref qm)), (1, some (.int x1)), (2, some (.int x2)), (3, some (.int x3)), (4, some (.int x4))] → ZM p l e 5 s m args below meth c D cz qm wr_waves σ0 (some (.int r.1)) r.2 σ (F0 m 40 ls []))) (σ : MS) (x1 : Int32) (x2 : Int32) (x3 : Int32) (x4 : Int32) (ls : Array Slot), M_waves_B40 G k40 σ x1 x2 x3 x4 = some r → ag wr_waves σ0 σ → lq ls 7 [(0, some (.ref qm)), (1, some (.int x1)), (2, some (.int x2)), (3, some (.int x3)), (4, some (.int x4))] → ZM p l e 5 s m args below meth c D cz qm wr_waves σ0 (some (.int r.1)) r.2 σ (F0 m 40 ls []) := by
    intro k40 hk40 σ x1 x2 x3 x4 ls hF ha hl
    unfold M_waves_B40 at hF
    refine g_iload (i := 4) K hl dX4_waves_40 rfl ?_
    refine g_bipush K dX4_waves_42 lb_6 ?_
    refine g_icmp_gt (tgt := 136) K hF dX4_waves_44 (by decide) (fun hF => ?_) (fun hF => ?_)
    · refine g_iconst K dX4_waves_136 lc_m1 ?_
      exact m_iretW K hF ha dX4_waves_137
    · refine g_iconst K dX4_waves_47 lc_0 ?_
      refine g_istore (i := 5) K hl dX4_waves_48 rfl rfl (fun ls hl => ?_)
      exact L50 k40 hk40 G _ _ _ _ _ _ ls hF ha (lq_sub hl rfl)
  have L40 : ∀  (n : Nat) (σ : MS) (x1 : Int32) (x2 : Int32) (x3 : Int32) (x4 : Int32) (ls : Array Slot), M_waves_L40 G  n σ x1 x2 x3 x4 = some r → ag wr_waves σ0 σ → lq ls 7 [(0, some (.ref qm)), (1, some (.int x1)), (2, some (.int x2)), (3, some (.int x3)), (4, some (.int x4))] → ZM p l e 5 s m args below meth c D cz qm wr_waves σ0 (some (.int r.1)) r.2 σ (F0 m 40 ls []) := by
    intro  n
    induction n with
    | zero => intro σ x1 x2 x3 x4 ls hF; exact absurd hF (fun h => by cases h)
    | succ n ih => intro σ x1 x2 x3 x4 ls hF ha hl; exact B40  _ ih _ _ _ _ _ ls hF ha hl
  have ha : ag wr_waves σ0 σ0 := ag.rf
  unfold M_waves at hF
  refine g_aload_n (i := 0) K hl dX4_waves_0 rfl rfl ?_
  refine g_iconst K dX4_waves_1 lc_0 ?_
  refine mput_85 K hF ha rfl dX4_waves_2 (fun σ1 hF ha => ?_)
  refine g_aload_n (i := 0) K hl dX4_waves_5 rfl rfl ?_
  refine m_callVV K hl hF ha rfl (fun t h => w_load G _  t h) rfl cp_load q2027 rfl rfl rfl rfl rfl dX4_waves_6 (fun σ2 hF ha => ?_)
  refine g_aload_n (i := 0) K hl dX4_waves_9 rfl rfl ?_
  refine g_iload_n (i := 1) K hl dX4_waves_10 rfl rfl ?_
  refine m_callVP K hl hF (fun t h => w_isApple _ _ t h) rfl cp_isApple q2004 rfl rfl rfl rfl rfl dX4_waves_11 (fun t3 hF => ?_)
  refine g_if_eq (tgt := 34) K hF dX4_waves_14 (by decide) (fun hF => ?_) (fun hF => ?_)
  · refine g_bipush K dX4_waves_34 lb_m2 ?_
    exact m_iretW K hF ha dX4_waves_36
  · refine g_aload_n (i := 0) K hl dX4_waves_17 rfl rfl ?_
    refine g_iload_n (i := 2) K hl dX4_waves_18 rfl rfl ?_
    refine g_iload_n (i := 3) K hl dX4_waves_19 rfl rfl ?_
    refine m_callVP K hl hF (fun t h => w_isCell _ _ _ t h) rfl cp_isCell q2125 rfl rfl rfl rfl rfl dX4_waves_20 (fun t4 hF => ?_)
    refine g_if_eq (tgt := 34) K hF dX4_waves_23 (by decide) (fun hF => ?_) (fun hF => ?_)
    · refine g_bipush K dX4_waves_34 lb_m2 ?_
      exact m_iretW K hF ha dX4_waves_36
    · refine g_aload_n (i := 0) K hl dX4_waves_26 rfl rfl ?_
      refine g_iload_n (i := 1) K hl dX4_waves_27 rfl rfl ?_
      refine m_callVP K hl hF (fun t h => w_isAfloat _ _ t h) rfl cp_isAfloat q2035 rfl rfl rfl rfl rfl dX4_waves_28 (fun t5 hF => ?_)
      refine g_if_ne (tgt := 37) K hF dX4_waves_31 (by decide) (fun hF => ?_) (fun hF => ?_)
      · refine g_iconst K dX4_waves_37 lc_0 ?_
        refine g_istore (i := 4) K hl dX4_waves_38 rfl rfl (fun ls hl => ?_)
        exact L40  G _ _ _ _ _ ls hF ha (lq_sub hl rfl)
      · refine g_bipush K dX4_waves_34 lb_m2 ?_
        exact m_iretW K hF ha dX4_waves_36

theorem cp_lasts : cpV yX4_lasts cX4_lasts 4 (some .int) 2 := ⟨q2288, qs140, q152, q2289, by decide +kernel⟩
set_option maxHeartbeats 4000000 in
set_option maxRecDepth 100000 in
theorem w_lasts {l : Launch} {D : va_G} {cz : Nat → ClassId} {qm : Nat} (G : Nat) (σ0 : MS) (a0 : Int32) (a1 : Int32) (r : (Int32 × MS)) (hF : M_lasts G σ0 a0 a1 = some r) : mMet l D cz qm yX4_lasts cX4_lasts 4 (some .int) 5 wr_lasts [.ref qm, .int a0, .int a1] σ0 (some (.int r.1)) r.2 := by
  refine m_of (by decide) rfl ?_
  intro p e s m args below meth c ls K hl
  have ha : ag wr_lasts σ0 σ0 := ag.rf
  unfold M_lasts at hF
  refine g_aload_n (i := 0) K hl dX4_lasts_0 rfl rfl ?_
  refine g_iload_n (i := 1) K hl dX4_lasts_1 rfl rfl ?_
  refine g_iload_n (i := 2) K hl dX4_lasts_2 rfl rfl ?_
  refine g_iconst K dX4_lasts_3 lc_0 ?_
  refine m_callVW K hl hF ha rfl (fun t h => w_oddsOf G _ _ _ _ t h) rfl cp_oddsOf q2065 rfl rfl rfl rfl rfl dX4_lasts_4 (fun t2 σ1 hF ha => ?_)
  refine g_istore_n (i := 3) K hl dX4_lasts_7 rfl rfl rfl (fun ls hl => ?_)
  refine g_iload_n (i := 3) K hl dX4_lasts_8 rfl rfl ?_
  refine g_if_ne (tgt := 18) K hF dX4_lasts_9 (by decide) (fun hF => ?_) (fun hF => ?_)
  · refine g_sipush K dX4_lasts_18 ls_1000 ?_
    refine g_iload_n (i := 3) K hl dX4_lasts_21 rfl rfl ?_
    refine g_idivT K hF dX4_lasts_22 (fun t3 hF => ?_)
    exact m_iretW K hF ha dX4_lasts_23
  · refine g_sipush K dX4_lasts_12 ls_9999 ?_
    refine g_goto (tgt := 23) K dX4_lasts_15 (by decide) ?_
    exact m_iretW K hF ha dX4_lasts_23

theorem cp_fill : cpV yX4_fill cX4_fill 10 (some .int) 3 := ⟨q2283, q2284, q152, q2285, by decide +kernel⟩
set_option maxHeartbeats 4000000 in
set_option maxRecDepth 100000 in
theorem w_fill {l : Launch} {D : va_G} {cz : Nat → ClassId} {qm : Nat} (G : Nat) (σ0 : MS) (a0 : Int32) (a1 : Int32) (a2 : Int32) (r : (Int32 × MS)) (hF : M_fill G σ0 a0 a1 a2 = some r) : mMet l D cz qm yX4_fill cX4_fill 10 (some .int) 6 wr_fill [.ref qm, .int a0, .int a1, .int a2] σ0 (some (.int r.1)) r.2 := by
  refine m_of (by decide) rfl ?_
  intro p e s m args below meth c ls K hl
  have L113 : ∀ (k43 : MS → Int32 → Int32 → Int32 → Int32 → Int32 → Int32 → Option (Int32 × MS)) (hk43 : (∀ (σ : MS) (x1 : Int32) (x2 : Int32) (x3 : Int32) (x4 : Int32) (x5 : Int32) (x6 : Int32) (ls : Array Slot), k43 σ x1 x2 x3 x4 x5 x6 = some r → ag wr_fill σ0 σ → lq ls 10 [(0, some (.ref qm)), (1, some (.int x1)), (2, some (.int x2)), (3, some (.int x3)), (4, some (.int x4)), (5, some (.int x5)), (6, some (.int x6))] → ZM p l e 6 s m args below meth c D cz qm wr_fill σ0 (some (.int r.1)) r.2 σ (F0 m 43 ls []))) (k63 : MS → Int32 → Int32 → Int32 → Int32 → Int32 → Int32 → Int32 → Int32 → Int32 → Option (Int32 × MS)) (hk63 : (∀ (σ : MS) (x1 : Int32) (x2 : Int32) (x3 : Int32) (x4 : Int32) (x5 : Int32) (x6 : Int32) (x7 : Int32) (x8 : Int32) (x9 : Int32) (ls : Array Slot), k63 σ x1 x2 x3 x4 x5 x6 x7 x8 x9 = some r → ag wr_fill σ0 σ → lq ls 10 [(0, some (.ref qm)), (1, some (.int x1)), (2, some (.int x2)), (3, some (.int x3)), (4, some (.int x4)), (5, some (.int x5)), (6, some (.int x6)), (7, some (.int x7)), (8, some (.int x8)), (9, some (.int x9))] → ZM p l e 6 s m args below meth c D cz qm wr_fill σ0 (some (.int r.1)) r.2 σ (F0 m 63 ls []))) (σ : MS) (x1 : Int32) (x2 : Int32) (x3 : Int32) (x4 : Int32) (x5 : Int32) (x6 : Int32) (x8 : Int32) (x9 : Int32) (s0 : Int32) (s1 : Int32) (ls : Array Slot), M_fill_L113 G k43 k63 σ x1 x2 x3 x4 x5 x6 x8 x9 s0 s1 = some r → ag wr_fill σ0 σ → lq ls 10 [(0, some (.ref qm)), (1, some (.int x1)), (2, some (.int x2)), (3, some (.int x3)), (4, some (.int x4)), (5, some (.int x5)), (6, some (.int x6)), (8, some (.int x8)), (9, some (.int x9))] → ZM p l e 6 s m args below meth c D cz qm wr_fill σ0 (some (.int r.1)) r.2 σ (F0 m 113 ls [.int s1, .int s0]) := by
    intro k43 hk43 k63 hk63 σ x1 x2 x3 x4 x5 x6 x8 x9 s0 s1 ls hF ha hl
    unfold M_fill_L113 at hF
    refine g_iadd K dX4_fill_113 ?_
    refine g_istore (i := 7) K hl dX4_fill_114 rfl rfl (fun ls hl => ?_)
    refine g_iload (i := 8) K hl dX4_fill_116 rfl ?_
    refine g_aload_n (i := 0) K hl dX4_fill_118 rfl rfl ?_
    refine g_iload_n (i := 1) K hl dX4_fill_119 rfl rfl ?_
    refine g_iload (i := 9) K hl dX4_fill_120 rfl ?_
    refine m_callVW K hl hF ha rfl (fun t h => w_lasts G _ _ _ t h) rfl cp_lasts q2286 rfl rfl rfl rfl rfl dX4_fill_122 (fun t2 σ1 hF ha => ?_)
    refine g_iadd K dX4_fill_125 ?_
    refine g_istore (i := 8) K hl dX4_fill_126 rfl rfl (fun ls hl => ?_)
    refine g_iinc (i := 9) K hl dX4_fill_128 rfl lc_1 rfl rfl (fun ls hl => ?_)
    refine g_goto (tgt := 63) K dX4_fill_131 (by decide) ?_
    exact hk63 _ _ _ _ _ _ _ _ _ _ ls hF ha (lq_sub hl rfl)
  have B63 : ∀ (k43 : MS → Int32 → Int32 → Int32 → Int32 → Int32 → Int32 → Option (Int32 × MS)) (hk43 : (∀ (σ : MS) (x1 : Int32) (x2 : Int32) (x3 : Int32) (x4 : Int32) (x5 : Int32) (x6 : Int32) (ls : Array Slot), k43 σ x1 x2 x3 x4 x5 x6 = some r → ag wr_fill σ0 σ → lq ls 10 [(0, some (.ref qm)), (1, some (.int x1)), (2, some (.int x2)), (3, some (.int x3)), (4, some (.int x4)), (5, some (.int x5)), (6, some (.int x6))] → ZM p l e 6 s m args below meth c D cz qm wr_fill σ0 (some (.int r.1)) r.2 σ (F0 m 43 ls []))) (k63 : MS → Int32 → Int32 → Int32 → Int32 → Int32 → Int32 → Int32 → Int32 → Int32 → Option (Int32 × MS)) (hk63 : (∀ (σ : MS) (x1 : Int32) (x2 : Int32) (x3 : Int32) (x4 : Int32) (x5 : Int32) (x6 : Int32) (x7 : Int32) (x8 : Int32) (x9 : Int32) (ls : Array Slot), k63 σ x1 x2 x3 x4 x5 x6 x7 x8 x9 = some r → ag wr_fill σ0 σ → lq ls 10 [(0, some (.ref qm)), (1, some (.int x1)), (2, some (.int x2)), (3, some (.int x3)), (4, some (.int x4)), (5, some (.int x5)), (6, some (.int x6)), (7, some (.int x7)), (8, some (.int x8)), (9, some (.int x9))] → ZM p l e 6 s m args below meth c D cz qm wr_fill σ0 (some (.int r.1)) r.2 σ (F0 m 63 ls []))) (σ : MS) (x1 : Int32) (x2 : Int32) (x3 : Int32) (x4 : Int32) (x5 : Int32) (x6 : Int32) (x7 : Int32) (x8 : Int32) (x9 : Int32) (ls : Array Slot), M_fill_B63 G k43 k63 σ x1 x2 x3 x4 x5 x6 x7 x8 x9 = some r → ag wr_fill σ0 σ → lq ls 10 [(0, some (.ref qm)), (1, some (.int x1)), (2, some (.int x2)), (3, some (.int x3)), (4, some (.int x4)), (5, some (.int x5)), (6, some (.int x6)), (7, some (.int x7)), (8, some (.int x8)), (9, some (.int x9))] → ZM p l e 6 s m args below meth c D cz qm wr_fill σ0 (some (.int r.1)) r.2 σ (F0 m 63 ls []) := by
    intro k43 hk43 k63 hk63 σ x1 x2 x3 x4 x5 x6 x7 x8 x9 ls hF ha hl
    unfold M_fill_B63 at hF
    refine g_iload (i := 9) K hl dX4_fill_63 rfl ?_
    refine g_aload_n (i := 0) K hl dX4_fill_65 rfl rfl ?_
    refine mget_60 K dX4_fill_66 ?_
    refine g_icmp_ge (tgt := 134) K hF dX4_fill_69 (by decide) (fun hF => ?_) (fun hF => ?_)
    · refine g_iload (i := 7) K hl dX4_fill_134 rfl ?_
      refine g_iload_n (i := 2) K hl dX4_fill_136 rfl rfl ?_
      refine g_icmp_gt (tgt := 158) K hF dX4_fill_137 (by decide) (fun hF => ?_) (fun hF => ?_)
      · refine g_iinc (i := 6) K hl dX4_fill_158 rfl lc_1 rfl rfl (fun ls hl => ?_)
        refine g_goto (tgt := 43) K dX4_fill_161 (by decide) ?_
        exact hk43 _ _ _ _ _ _ _ ls hF ha (lq_sub hl rfl)
      · refine g_iload (i := 8) K hl dX4_fill_140 rfl ?_
        refine g_iload (i := 5) K hl dX4_fill_142 rfl ?_
        refine g_icmp_gt (tgt := 150) K hF dX4_fill_144 (by decide) (fun hF => ?_) (fun hF => ?_)
        · refine g_iload (i := 6) K hl dX4_fill_150 rfl ?_
          refine g_istore (i := 4) K hl dX4_fill_152 rfl rfl (fun ls hl => ?_)
          refine g_iload (i := 8) K hl dX4_fill_154 rfl ?_
          refine g_istore (i := 5) K hl dX4_fill_156 rfl rfl (fun ls hl => ?_)
          refine g_iinc (i := 6) K hl dX4_fill_158 rfl lc_1 rfl rfl (fun ls hl => ?_)
          refine g_goto (tgt := 43) K dX4_fill_161 (by decide) ?_
          exact hk43 _ _ _ _ _ _ _ ls hF ha (lq_sub hl rfl)
        · refine g_goto (tgt := 158) K dX4_fill_147 (by decide) ?_
          refine g_iinc (i := 6) K hl dX4_fill_158 rfl lc_1 rfl rfl (fun ls hl => ?_)
          refine g_goto (tgt := 43) K dX4_fill_161 (by decide) ?_
          exact hk43 _ _ _ _ _ _ _ ls hF ha (lq_sub hl rfl)
    · refine g_iload (i := 6) K hl dX4_fill_72 rfl ?_
      refine g_iload (i := 9) K hl dX4_fill_74 rfl ?_
      refine g_ishr K dX4_fill_76 ?_
      refine g_iconst K dX4_fill_77 lc_1 ?_
      refine g_iand K dX4_fill_78 ?_
      refine g_if_ne (tgt := 85) K hF dX4_fill_79 (by decide) (fun hF => ?_) (fun hF => ?_)
      · refine g_iload (i := 7) K hl dX4_fill_85 rfl ?_
        refine g_aload_n (i := 0) K hl dX4_fill_87 rfl rfl ?_
        refine g_iload (i := 9) K hl dX4_fill_88 rfl ?_
        refine m_callVP K hl hF (fun t h => w_isAfloat _ _ t h) rfl cp_isAfloat q2035 rfl rfl rfl rfl rfl dX4_fill_90 (fun t1 hF => ?_)
        refine g_if_eq (tgt := 110) K hF dX4_fill_93 (by decide) (fun hF => ?_) (fun hF => ?_)
        · refine g_sipush K dX4_fill_110 ls_1000 ?_
          exact L113 k43 hk43 k63 hk63 _ _ _ _ _ _ _ _ _ _ _ ls hF ha (lq_sub hl rfl)
        · refine g_aload_n (i := 0) K hl dX4_fill_96 rfl rfl ?_
          refine mget_66 K dX4_fill_97 ?_
          refine g_iconst K dX4_fill_100 lc_5 ?_
          refine g_iload (i := 9) K hl dX4_fill_101 rfl ?_
          refine g_imul K dX4_fill_103 ?_
          refine g_iconst K dX4_fill_104 lc_4 ?_
          refine g_iadd K dX4_fill_105 ?_
          refine mld_66 K hF dX4_fill_106 (fun t2 hF => ?_)
          refine g_goto (tgt := 113) K dX4_fill_107 (by decide) ?_
          exact L113 k43 hk43 k63 hk63 _ _ _ _ _ _ _ _ _ _ _ ls hF ha (lq_sub hl rfl)
      · refine g_goto (tgt := 128) K dX4_fill_82 (by decide) ?_
        refine g_iinc (i := 9) K hl dX4_fill_128 rfl lc_1 rfl rfl (fun ls hl => ?_)
        refine g_goto (tgt := 63) K dX4_fill_131 (by decide) ?_
        exact hk63 _ _ _ _ _ _ _ _ _ _ ls hF ha (lq_sub hl rfl)
  have L63 : ∀ (k43 : MS → Int32 → Int32 → Int32 → Int32 → Int32 → Int32 → Option (Int32 × MS)) (hk43 : (∀ (σ : MS) (x1 : Int32) (x2 : Int32) (x3 : Int32) (x4 : Int32) (x5 : Int32) (x6 : Int32) (ls : Array Slot), k43 σ x1 x2 x3 x4 x5 x6 = some r → ag wr_fill σ0 σ → lq ls 10 [(0, some (.ref qm)), (1, some (.int x1)), (2, some (.int x2)), (3, some (.int x3)), (4, some (.int x4)), (5, some (.int x5)), (6, some (.int x6))] → ZM p l e 6 s m args below meth c D cz qm wr_fill σ0 (some (.int r.1)) r.2 σ (F0 m 43 ls []))) (n : Nat) (σ : MS) (x1 : Int32) (x2 : Int32) (x3 : Int32) (x4 : Int32) (x5 : Int32) (x6 : Int32) (x7 : Int32) (x8 : Int32) (x9 : Int32) (ls : Array Slot), M_fill_L63 G k43 n σ x1 x2 x3 x4 x5 x6 x7 x8 x9 = some r → ag wr_fill σ0 σ → lq ls 10 [(0, some (.ref qm)), (1, some (.int x1)), (2, some (.int x2)), (3, some (.int x3)), (4, some (.int x4)), (5, some (.int x5)), (6, some (.int x6)), (7, some (.int x7)), (8, some (.int x8)), (9, some (.int x9))] → ZM p l e 6 s m args below meth c D cz qm wr_fill σ0 (some (.int r.1)) r.2 σ (F0 m 63 ls []) := by
    intro k43 hk43 n
    induction n with
    | zero => intro σ x1 x2 x3 x4 x5 x6 x7 x8 x9 ls hF; exact absurd hF (fun h => by cases h)
    | succ n ih => intro σ x1 x2 x3 x4 x5 x6 x7 x8 x9 ls hF ha hl; exact B63 k43 hk43 _ ih _ _ _ _ _ _ _ _ _ _ ls hF ha hl
  have B43 : ∀ (k43 : MS → Int32 → Int32 → Int32 → Int32 → Int32 → Int32 → Option (Int32 × MS)) (hk43 : (∀ (σ : MS) (x1 : Int32) (x2 : Int32) (x3 : Int32) (x4 : Int32) (x5 : Int32) (x6 : Int32) (ls : Array Slot), k43 σ x1 x2 x3 x4 x5 x6 = some r → ag wr_fill σ0 σ → lq ls 10 [(0, some (.ref qm)), (1, some (.int x1)), (2, some (.int x2)), (3, some (.int x3)), (4, some (.int x4)), (5, some (.int x5)), (6, some (.int x6))] → ZM p l e 6 s m args below meth c D cz qm wr_fill σ0 (some (.int r.1)) r.2 σ (F0 m 43 ls []))) (σ : MS) (x1 : Int32) (x2 : Int32) (x3 : Int32) (x4 : Int32) (x5 : Int32) (x6 : Int32) (ls : Array Slot), M_fill_B43 G k43 σ x1 x2 x3 x4 x5 x6 = some r → ag wr_fill σ0 σ → lq ls 10 [(0, some (.ref qm)), (1, some (.int x1)), (2, some (.int x2)), (3, some (.int x3)), (4, some (.int x4)), (5, some (.int x5)), (6, some (.int x6))] → ZM p l e 6 s m args below meth c D cz qm wr_fill σ0 (some (.int r.1)) r.2 σ (F0 m 43 ls []) := by
    intro k43 hk43 σ x1 x2 x3 x4 x5 x6 ls hF ha hl
    unfold M_fill_B43 at hF
    refine g_iload (i := 6) K hl dX4_fill_43 rfl ?_
    refine g_iconst K dX4_fill_45 lc_1 ?_
    refine g_aload_n (i := 0) K hl dX4_fill_46 rfl rfl ?_
    refine mget_60 K dX4_fill_47 ?_
    refine g_ishl K dX4_fill_50 ?_
    refine g_icmp_ge (tgt := 164) K hF dX4_fill_51 (by decide) (fun hF => ?_) (fun hF => ?_)
    · refine g_iload_n (i := 3) K hl dX4_fill_164 rfl rfl ?_
      refine g_if_ne (tgt := 173) K hF dX4_fill_165 (by decide) (fun hF => ?_) (fun hF => ?_)
      · refine g_iload (i := 5) K hl dX4_fill_173 rfl ?_
        exact m_iretW K hF ha dX4_fill_175
      · refine g_iload (i := 4) K hl dX4_fill_168 rfl ?_
        refine g_goto (tgt := 175) K dX4_fill_170 (by decide) ?_
        exact m_iretW K hF ha dX4_fill_175
    · refine g_iconst K dX4_fill_54 lc_0 ?_
      refine g_istore (i := 7) K hl dX4_fill_55 rfl rfl (fun ls hl => ?_)
      refine g_iconst K dX4_fill_57 lc_0 ?_
      refine g_istore (i := 8) K hl dX4_fill_58 rfl rfl (fun ls hl => ?_)
      refine g_iconst K dX4_fill_60 lc_0 ?_
      refine g_istore (i := 9) K hl dX4_fill_61 rfl rfl (fun ls hl => ?_)
      exact L63 k43 hk43 G _ _ _ _ _ _ _ _ _ _ ls hF ha (lq_sub hl rfl)
  have L43 : ∀  (n : Nat) (σ : MS) (x1 : Int32) (x2 : Int32) (x3 : Int32) (x4 : Int32) (x5 : Int32) (x6 : Int32) (ls : Array Slot), M_fill_L43 G  n σ x1 x2 x3 x4 x5 x6 = some r → ag wr_fill σ0 σ → lq ls 10 [(0, some (.ref qm)), (1, some (.int x1)), (2, some (.int x2)), (3, some (.int x3)), (4, some (.int x4)), (5, some (.int x5)), (6, some (.int x6))] → ZM p l e 6 s m args below meth c D cz qm wr_fill σ0 (some (.int r.1)) r.2 σ (F0 m 43 ls []) := by
    intro  n
    induction n with
    | zero => intro σ x1 x2 x3 x4 x5 x6 ls hF; exact absurd hF (fun h => by cases h)
    | succ n ih => intro σ x1 x2 x3 x4 x5 x6 ls hF ha hl; exact B43  _ ih _ _ _ _ _ _ _ ls hF ha hl
  have ha : ag wr_fill σ0 σ0 := ag.rf
  unfold M_fill at hF
  refine g_aload_n (i := 0) K hl dX4_fill_0 rfl rfl ?_
  refine g_iload_n (i := 1) K hl dX4_fill_1 rfl rfl ?_
  refine m_callVP K hl hF (fun t h => w_isBobber _ _ t h) rfl cp_isBobber q2015 rfl rfl rfl rfl rfl dX4_fill_2 (fun t1 hF => ?_)
  refine g_if_eq (tgt := 28) K hF dX4_fill_5 (by decide) (fun hF => ?_) (fun hF => ?_)
  · refine g_iconst K dX4_fill_28 lc_m1 ?_
    exact m_iretW K hF ha dX4_fill_29
  · refine g_iload_n (i := 2) K hl dX4_fill_8 rfl rfl ?_
    refine g_iconst K dX4_fill_9 lc_0 ?_
    refine g_sipush K dX4_fill_10 ls_999 ?_
    refine m_callSP K hl hF (fun t h => w_isIn _ _ _ _ t h) cp_isIn q2008 rfl rfl rfl rfl rfl dX4_fill_13 (fun t2 hF => ?_)
    refine g_if_eq (tgt := 28) K hF dX4_fill_16 (by decide) (fun hF => ?_) (fun hF => ?_)
    · refine g_iconst K dX4_fill_28 lc_m1 ?_
      exact m_iretW K hF ha dX4_fill_29
    · refine g_iload_n (i := 3) K hl dX4_fill_19 rfl rfl ?_
      refine g_iconst K dX4_fill_20 lc_0 ?_
      refine g_iconst K dX4_fill_21 lc_1 ?_
      refine m_callSP K hl hF (fun t h => w_isIn _ _ _ _ t h) cp_isIn q2008 rfl rfl rfl rfl rfl dX4_fill_22 (fun t3 hF => ?_)
      refine g_if_ne (tgt := 30) K hF dX4_fill_25 (by decide) (fun hF => ?_) (fun hF => ?_)
      · refine g_aload_n (i := 0) K hl dX4_fill_30 rfl rfl ?_
        refine m_callVV K hl hF ha rfl (fun t h => w_load G _  t h) rfl cp_load q2027 rfl rfl rfl rfl rfl dX4_fill_31 (fun σ4 hF ha => ?_)
        refine g_iconst K dX4_fill_34 lc_0 ?_
        refine g_istore (i := 4) K hl dX4_fill_35 rfl rfl (fun ls hl => ?_)
        refine g_iconst K dX4_fill_37 lc_0 ?_
        refine g_istore (i := 5) K hl dX4_fill_38 rfl rfl (fun ls hl => ?_)
        refine g_iconst K dX4_fill_40 lc_1 ?_
        refine g_istore (i := 6) K hl dX4_fill_41 rfl rfl (fun ls hl => ?_)
        exact L43  G _ _ _ _ _ _ _ ls hF ha (lq_sub hl rfl)
      · refine g_iconst K dX4_fill_28 lc_m1 ?_
        exact m_iretW K hF ha dX4_fill_29

theorem cp_common : cpS yX4_common cX4_common 5 (some .int) 2 := ⟨q2295, q152, q2296, by decide +kernel⟩
set_option maxHeartbeats 4000000 in
set_option maxRecDepth 100000 in
theorem w_common {l : Launch} {D : va_G} {cz : Nat → ClassId} {qm : Nat} (G : Nat) (σ0 : MS) (a0 : Int32) (a1 : Int32) (r : Int32) (hF : M_common G a0 a1 = some r) : mMet l D cz qm yX4_common cX4_common 5 (some .int) 0 wr_common [.int a0, .int a1] σ0 (some (.int r)) σ0 := by
  refine m_of (by decide) rfl ?_
  intro p e s m args below meth c ls K hl
  have B4 : ∀ (k4 : Int32 → Int32 → Option Int32) (hk4 : (∀ (x2 : Int32) (x3 : Int32) (ls : Array Slot), k4 x2 x3 = some r → lq ls 5 [(2, some (.int x2)), (3, some (.int x3))] → ZM p l e 0 s m args below meth c D cz qm wr_common σ0 (some (.int r)) σ0 σ0 (F0 m 4 ls []))) (x2 : Int32) (x3 : Int32) (ls : Array Slot), M_common_B4 G k4 x2 x3 = some r → lq ls 5 [(2, some (.int x2)), (3, some (.int x3))] → ZM p l e 0 s m args below meth c D cz qm wr_common σ0 (some (.int r)) σ0 σ0 (F0 m 4 ls []) := by
    intro k4 hk4 x2 x3 ls hF hl
    unfold M_common_B4 at hF
    refine g_iload_n (i := 3) K hl dX4_common_4 rfl rfl ?_
    refine g_if_le (tgt := 21) K hF dX4_common_5 (by decide) (fun hF => ?_) (fun hF => ?_)
    · refine g_iload_n (i := 2) K hl dX4_common_21 rfl rfl ?_
      exact m_iretP K hF ag.rf dX4_common_22
    · refine g_iload_n (i := 2) K hl dX4_common_8 rfl rfl ?_
      refine g_iload_n (i := 3) K hl dX4_common_9 rfl rfl ?_
      refine g_iremT K hF dX4_common_10 (fun t1 hF => ?_)
      refine g_istore (i := 4) K hl dX4_common_11 rfl rfl (fun ls hl => ?_)
      refine g_iload_n (i := 3) K hl dX4_common_13 rfl rfl ?_
      refine g_istore_n (i := 2) K hl dX4_common_14 rfl rfl rfl (fun ls hl => ?_)
      refine g_iload (i := 4) K hl dX4_common_15 rfl ?_
      refine g_istore_n (i := 3) K hl dX4_common_17 rfl rfl rfl (fun ls hl => ?_)
      refine g_goto (tgt := 4) K dX4_common_18 (by decide) ?_
      exact hk4 _ _ ls hF (lq_sub hl rfl)
  have L4 : ∀  (n : Nat) (x2 : Int32) (x3 : Int32) (ls : Array Slot), M_common_L4 G  n x2 x3 = some r → lq ls 5 [(2, some (.int x2)), (3, some (.int x3))] → ZM p l e 0 s m args below meth c D cz qm wr_common σ0 (some (.int r)) σ0 σ0 (F0 m 4 ls []) := by
    intro  n
    induction n with
    | zero => intro x2 x3 ls hF; exact absurd hF (fun h => by cases h)
    | succ n ih => intro x2 x3 ls hF hl; exact B4  _ ih _ _ ls hF hl
  unfold M_common at hF
  refine g_iload_n (i := 0) K hl dX4_common_0 rfl rfl ?_
  refine g_istore_n (i := 2) K hl dX4_common_1 rfl rfl rfl (fun ls hl => ?_)
  refine g_iload_n (i := 1) K hl dX4_common_2 rfl rfl ?_
  refine g_istore_n (i := 3) K hl dX4_common_3 rfl rfl rfl (fun ls hl => ?_)
  exact L4  G _ _ ls hF (lq_sub hl rfl)

theorem cp_coin : cpV yX4_coin cX4_coin 5 (some .int) 2 := ⟨q2291, q2292, q152, q2293, by decide +kernel⟩
set_option maxHeartbeats 4000000 in
set_option maxRecDepth 100000 in
theorem w_coin {l : Launch} {D : va_G} {cz : Nat → ClassId} {qm : Nat} (G : Nat) (σ0 : MS) (a0 : Int32) (a1 : Int32) (r : (Int32 × MS)) (hF : M_coin G σ0 a0 a1 = some r) : mMet l D cz qm yX4_coin cX4_coin 5 (some .int) 2 wr_coin [.ref qm, .int a0, .int a1] σ0 (some (.int r.1)) r.2 := by
  refine m_of (by decide) rfl ?_
  intro p e s m args below meth c ls K hl
  have B28 : ∀ (k28 : MS → Int32 → Int32 → Int32 → Int32 → Option (Int32 × MS)) (hk28 : (∀ (σ : MS) (x1 : Int32) (x2 : Int32) (x3 : Int32) (x4 : Int32) (ls : Array Slot), k28 σ x1 x2 x3 x4 = some r → ag wr_coin σ0 σ → lq ls 5 [(0, some (.ref qm)), (1, some (.int x1)), (2, some (.int x2)), (3, some (.int x3)), (4, some (.int x4))] → ZM p l e 2 s m args below meth c D cz qm wr_coin σ0 (some (.int r.1)) r.2 σ (F0 m 28 ls []))) (σ : MS) (x1 : Int32) (x2 : Int32) (x3 : Int32) (x4 : Int32) (ls : Array Slot), M_coin_B28 G k28 σ x1 x2 x3 x4 = some r → ag wr_coin σ0 σ → lq ls 5 [(0, some (.ref qm)), (1, some (.int x1)), (2, some (.int x2)), (3, some (.int x3)), (4, some (.int x4))] → ZM p l e 2 s m args below meth c D cz qm wr_coin σ0 (some (.int r.1)) r.2 σ (F0 m 28 ls []) := by
    intro k28 hk28 σ x1 x2 x3 x4 ls hF ha hl
    unfold M_coin_B28 at hF
    refine g_iload (i := 4) K hl dX4_coin_28 rfl ?_
    refine g_aload_n (i := 0) K hl dX4_coin_30 rfl rfl ?_
    refine mget_60 K dX4_coin_31 ?_
    refine g_icmp_ge (tgt := 66) K hF dX4_coin_34 (by decide) (fun hF => ?_) (fun hF => ?_)
    · refine g_aload_n (i := 0) K hl dX4_coin_66 rfl rfl ?_
      refine g_iload_n (i := 1) K hl dX4_coin_67 rfl rfl ?_
      refine m_callVP K hl hF (fun t h => w_isAfloat _ _ t h) rfl cp_isAfloat q2035 rfl rfl rfl rfl rfl dX4_coin_68 (fun t1 hF => ?_)
      refine g_if_eq (tgt := 78) K hF dX4_coin_71 (by decide) (fun hF => ?_) (fun hF => ?_)
      · refine g_iload_n (i := 2) K hl dX4_coin_78 rfl rfl ?_
        exact m_iretW K hF ha dX4_coin_79
      · refine g_iload_n (i := 3) K hl dX4_coin_74 rfl rfl ?_
        refine g_if_ne (tgt := 80) K hF dX4_coin_75 (by decide) (fun hF => ?_) (fun hF => ?_)
        · refine g_aload_n (i := 0) K hl dX4_coin_80 rfl rfl ?_
          refine mget_41 K dX4_coin_81 ?_
          refine g_iload_n (i := 1) K hl dX4_coin_84 rfl rfl ?_
          refine mld_41 K hF dX4_coin_85 (fun t2 hF => ?_)
          refine g_iload_n (i := 3) K hl dX4_coin_86 rfl rfl ?_
          refine m_callSP K hl hF (fun t h => w_common G _ _ _ t h) cp_common q2294 rfl rfl rfl rfl rfl dX4_coin_87 (fun t3 hF => ?_)
          refine g_istore (i := 4) K hl dX4_coin_90 rfl rfl (fun ls hl => ?_)
          refine g_iload_n (i := 2) K hl dX4_coin_92 rfl rfl ?_
          refine g_if_ne (tgt := 108) K hF dX4_coin_93 (by decide) (fun hF => ?_) (fun hF => ?_)
          · refine g_iload_n (i := 3) K hl dX4_coin_108 rfl rfl ?_
            refine g_iload (i := 4) K hl dX4_coin_109 rfl ?_
            refine g_idivT K hF dX4_coin_111 (fun t4 hF => ?_)
            exact m_iretW K hF ha dX4_coin_112
          · refine g_aload_n (i := 0) K hl dX4_coin_96 rfl rfl ?_
            refine mget_41 K dX4_coin_97 ?_
            refine g_iload_n (i := 1) K hl dX4_coin_100 rfl rfl ?_
            refine mld_41 K hF dX4_coin_101 (fun t5 hF => ?_)
            refine g_iload (i := 4) K hl dX4_coin_102 rfl ?_
            refine g_idivT K hF dX4_coin_104 (fun t6 hF => ?_)
            refine g_goto (tgt := 112) K dX4_coin_105 (by decide) ?_
            exact m_iretW K hF ha dX4_coin_112
        · refine g_iload_n (i := 2) K hl dX4_coin_78 rfl rfl ?_
          exact m_iretW K hF ha dX4_coin_79
    · refine g_iload_n (i := 3) K hl dX4_coin_37 rfl rfl ?_
      refine g_aload_n (i := 0) K hl dX4_coin_38 rfl rfl ?_
      refine g_iload (i := 4) K hl dX4_coin_39 rfl ?_
      refine m_callVP K hl hF (fun t h => w_isAfloat _ _ t h) rfl cp_isAfloat q2035 rfl rfl rfl rfl rfl dX4_coin_41 (fun t7 hF => ?_)
      refine g_if_eq (tgt := 57) K hF dX4_coin_44 (by decide) (fun hF => ?_) (fun hF => ?_)
      · refine g_iconst K dX4_coin_57 lc_0 ?_
        refine g_iadd K dX4_coin_58 ?_
        refine g_istore_n (i := 3) K hl dX4_coin_59 rfl rfl rfl (fun ls hl => ?_)
        refine g_iinc (i := 4) K hl dX4_coin_60 rfl lc_1 rfl rfl (fun ls hl => ?_)
        refine g_goto (tgt := 28) K dX4_coin_63 (by decide) ?_
        exact hk28 _ _ _ _ _ ls hF ha (lq_sub hl rfl)
      · refine g_aload_n (i := 0) K hl dX4_coin_47 rfl rfl ?_
        refine mget_41 K dX4_coin_48 ?_
        refine g_iload (i := 4) K hl dX4_coin_51 rfl ?_
        refine mld_41 K hF dX4_coin_53 (fun t8 hF => ?_)
        refine g_goto (tgt := 58) K dX4_coin_54 (by decide) ?_
        refine g_iadd K dX4_coin_58 ?_
        refine g_istore_n (i := 3) K hl dX4_coin_59 rfl rfl rfl (fun ls hl => ?_)
        refine g_iinc (i := 4) K hl dX4_coin_60 rfl lc_1 rfl rfl (fun ls hl => ?_)
        refine g_goto (tgt := 28) K dX4_coin_63 (by decide) ?_
        exact hk28 _ _ _ _ _ ls hF ha (lq_sub hl rfl)
  have L28 : ∀  (n : Nat) (σ : MS) (x1 : Int32) (x2 : Int32) (x3 : Int32) (x4 : Int32) (ls : Array Slot), M_coin_L28 G  n σ x1 x2 x3 x4 = some r → ag wr_coin σ0 σ → lq ls 5 [(0, some (.ref qm)), (1, some (.int x1)), (2, some (.int x2)), (3, some (.int x3)), (4, some (.int x4))] → ZM p l e 2 s m args below meth c D cz qm wr_coin σ0 (some (.int r.1)) r.2 σ (F0 m 28 ls []) := by
    intro  n
    induction n with
    | zero => intro σ x1 x2 x3 x4 ls hF; exact absurd hF (fun h => by cases h)
    | succ n ih => intro σ x1 x2 x3 x4 ls hF ha hl; exact B28  _ ih _ _ _ _ _ ls hF ha hl
  have ha : ag wr_coin σ0 σ0 := ag.rf
  unfold M_coin at hF
  refine g_aload_n (i := 0) K hl dX4_coin_0 rfl rfl ?_
  refine g_iload_n (i := 1) K hl dX4_coin_1 rfl rfl ?_
  refine m_callVP K hl hF (fun t h => w_isApple _ _ t h) rfl cp_isApple q2004 rfl rfl rfl rfl rfl dX4_coin_2 (fun t1 hF => ?_)
  refine g_if_eq (tgt := 17) K hF dX4_coin_5 (by decide) (fun hF => ?_) (fun hF => ?_)
  · refine g_iconst K dX4_coin_17 lc_m1 ?_
    exact m_iretW K hF ha dX4_coin_18
  · refine g_iload_n (i := 2) K hl dX4_coin_8 rfl rfl ?_
    refine g_iconst K dX4_coin_9 lc_0 ?_
    refine g_iconst K dX4_coin_10 lc_1 ?_
    refine m_callSP K hl hF (fun t h => w_isIn _ _ _ _ t h) cp_isIn q2008 rfl rfl rfl rfl rfl dX4_coin_11 (fun t2 hF => ?_)
    refine g_if_ne (tgt := 19) K hF dX4_coin_14 (by decide) (fun hF => ?_) (fun hF => ?_)
    · refine g_aload_n (i := 0) K hl dX4_coin_19 rfl rfl ?_
      refine m_callVV K hl hF ha rfl (fun t h => w_load G _  t h) rfl cp_load q2027 rfl rfl rfl rfl rfl dX4_coin_20 (fun σ3 hF ha => ?_)
      refine g_iconst K dX4_coin_23 lc_0 ?_
      refine g_istore_n (i := 3) K hl dX4_coin_24 rfl rfl rfl (fun ls hl => ?_)
      refine g_iconst K dX4_coin_25 lc_0 ?_
      refine g_istore (i := 4) K hl dX4_coin_26 rfl rfl (fun ls hl => ?_)
      exact L28  G _ _ _ _ _ ls hF ha (lq_sub hl rfl)
    · refine g_iconst K dX4_coin_17 lc_m1 ?_
      exact m_iretW K hF ha dX4_coin_18

theorem cp_lies : cpV yX4_lies cX4_lies 2 (some .int) 1 := ⟨q2298, q2299, q152, q2300, by decide +kernel⟩
set_option maxHeartbeats 4000000 in
set_option maxRecDepth 100000 in
theorem w_lies {l : Launch} {D : va_G} {cz : Nat → ClassId} {qm : Nat} (σ0 : MS) (a0 : Int32) (r : Int32) (hF : M_lies σ0 a0 = some r) : mMet l D cz qm yX4_lies cX4_lies 2 (some .int) 1 wr_lies [.ref qm, .int a0] σ0 (some (.int r)) σ0 := by
  refine m_of (by decide) rfl ?_
  intro p e s m args below meth c ls K hl
  unfold M_lies at hF
  refine g_iload_n (i := 1) K hl dX4_lies_0 rfl rfl ?_
  refine g_iconst K dX4_lies_1 lc_0 ?_
  refine g_aload_n (i := 0) K hl dX4_lies_2 rfl rfl ?_
  refine mget_85 K dX4_lies_3 ?_
  refine g_iconst K dX4_lies_6 lc_1 ?_
  refine g_isub K dX4_lies_7 ?_
  refine m_callSP K hl hF (fun t h => w_isIn _ _ _ _ t h) cp_isIn q2008 rfl rfl rfl rfl rfl dX4_lies_8 (fun t1 hF => ?_)
  refine g_if_eq (tgt := 23) K hF dX4_lies_11 (by decide) (fun hF => ?_) (fun hF => ?_)
  · refine g_iconst K dX4_lies_23 lc_m1 ?_
    exact m_iretP K hF ag.rf dX4_lies_24
  · refine g_aload_n (i := 0) K hl dX4_lies_14 rfl rfl ?_
    refine mget_83 K dX4_lies_15 ?_
    refine g_iload_n (i := 1) K hl dX4_lies_18 rfl rfl ?_
    refine mld_83 K hF dX4_lies_19 (fun t2 hF => ?_)
    refine g_goto (tgt := 24) K dX4_lies_20 (by decide) ?_
    exact m_iretP K hF ag.rf dX4_lies_24

theorem cp_pick : cpV yX4_pick cX4_pick 4 (some .int) 3 := ⟨q2302, q2303, q152, q2304, by decide +kernel⟩
set_option maxHeartbeats 4000000 in
set_option maxRecDepth 100000 in
theorem w_pick {l : Launch} {D : va_G} {cz : Nat → ClassId} {qm : Nat} (σ0 : MS) (a0 : Int32) (a1 : Int32) (a2 : Int32) (r : (Int32 × MS)) (hF : M_pick σ0 a0 a1 a2 = some r) : mMet l D cz qm yX4_pick cX4_pick 4 (some .int) 2 wr_pick [.ref qm, .int a0, .int a1, .int a2] σ0 (some (.int r.1)) r.2 := by
  refine m_of (by decide) rfl ?_
  intro p e s m args below meth c ls K hl
  have ha : ag wr_pick σ0 σ0 := ag.rf
  unfold M_pick at hF
  refine g_aload_n (i := 0) K hl dX4_pick_0 rfl rfl ?_
  refine g_iload_n (i := 1) K hl dX4_pick_1 rfl rfl ?_
  refine m_callVP K hl hF (fun t h => w_isBobber _ _ t h) rfl cp_isBobber q2015 rfl rfl rfl rfl rfl dX4_pick_2 (fun t1 hF => ?_)
  refine g_if_eq (tgt := 49) K hF dX4_pick_5 (by decide) (fun hF => ?_) (fun hF => ?_)
  · refine g_iconst K dX4_pick_49 lc_m1 ?_
    exact m_iretW K hF ha dX4_pick_50
  · refine g_iload_n (i := 2) K hl dX4_pick_8 rfl rfl ?_
    refine g_iconst K dX4_pick_9 lc_1 ?_
    refine g_iconst K dX4_pick_10 lc_1 ?_
    refine g_aload_n (i := 0) K hl dX4_pick_11 rfl rfl ?_
    refine mget_60 K dX4_pick_12 ?_
    refine g_ishl K dX4_pick_15 ?_
    refine g_iconst K dX4_pick_16 lc_1 ?_
    refine g_isub K dX4_pick_17 ?_
    refine m_callSP K hl hF (fun t h => w_isIn _ _ _ _ t h) cp_isIn q2008 rfl rfl rfl rfl rfl dX4_pick_18 (fun t2 hF => ?_)
    refine g_if_eq (tgt := 49) K hF dX4_pick_21 (by decide) (fun hF => ?_) (fun hF => ?_)
    · refine g_iconst K dX4_pick_49 lc_m1 ?_
      exact m_iretW K hF ha dX4_pick_50
    · refine g_aload_n (i := 0) K hl dX4_pick_24 rfl rfl ?_
      refine g_iload_n (i := 3) K hl dX4_pick_25 rfl rfl ?_
      refine m_callVP K hl hF (fun t h => w_isApple _ _ t h) rfl cp_isApple q2004 rfl rfl rfl rfl rfl dX4_pick_26 (fun t3 hF => ?_)
      refine g_if_eq (tgt := 49) K hF dX4_pick_29 (by decide) (fun hF => ?_) (fun hF => ?_)
      · refine g_iconst K dX4_pick_49 lc_m1 ?_
        exact m_iretW K hF ha dX4_pick_50
      · refine g_iload_n (i := 2) K hl dX4_pick_32 rfl rfl ?_
        refine g_iload_n (i := 3) K hl dX4_pick_33 rfl rfl ?_
        refine g_ishr K dX4_pick_34 ?_
        refine g_iconst K dX4_pick_35 lc_1 ?_
        refine g_iand K dX4_pick_36 ?_
        refine g_if_eq (tgt := 49) K hF dX4_pick_37 (by decide) (fun hF => ?_) (fun hF => ?_)
        · refine g_iconst K dX4_pick_49 lc_m1 ?_
          exact m_iretW K hF ha dX4_pick_50
        · refine g_aload_n (i := 0) K hl dX4_pick_40 rfl rfl ?_
          refine mget_91 K dX4_pick_41 ?_
          refine g_bipush K dX4_pick_44 lb_30 ?_
          refine g_icmp_ne (tgt := 51) K hF dX4_pick_46 (by decide) (fun hF => ?_) (fun hF => ?_)
          · refine g_aload_n (i := 0) K hl dX4_pick_51 rfl rfl ?_
            refine mget_86 K dX4_pick_52 ?_
            refine g_aload_n (i := 0) K hl dX4_pick_55 rfl rfl ?_
            refine mget_91 K dX4_pick_56 ?_
            refine g_iload_n (i := 1) K hl dX4_pick_59 rfl rfl ?_
            refine mst_86 K hF ha rfl dX4_pick_60 (fun σ4 hF ha => ?_)
            refine g_aload_n (i := 0) K hl dX4_pick_61 rfl rfl ?_
            refine mget_87 K dX4_pick_62 ?_
            refine g_aload_n (i := 0) K hl dX4_pick_65 rfl rfl ?_
            refine mget_91 K dX4_pick_66 ?_
            refine g_iload_n (i := 2) K hl dX4_pick_69 rfl rfl ?_
            refine mst_87 K hF ha rfl dX4_pick_70 (fun σ5 hF ha => ?_)
            refine g_aload_n (i := 0) K hl dX4_pick_71 rfl rfl ?_
            refine mget_88 K dX4_pick_72 ?_
            refine g_aload_n (i := 0) K hl dX4_pick_75 rfl rfl ?_
            refine mget_91 K dX4_pick_76 ?_
            refine g_iload_n (i := 3) K hl dX4_pick_79 rfl rfl ?_
            refine mst_88 K hF ha rfl dX4_pick_80 (fun σ6 hF ha => ?_)
            refine g_aload_n (i := 0) K hl dX4_pick_81 rfl rfl ?_
            refine mget_89 K dX4_pick_82 ?_
            refine g_aload_n (i := 0) K hl dX4_pick_85 rfl rfl ?_
            refine mget_91 K dX4_pick_86 ?_
            refine g_aload_n (i := 0) K hl dX4_pick_89 rfl rfl ?_
            refine mget_92 K dX4_pick_90 ?_
            refine mst_89 K hF ha rfl dX4_pick_93 (fun σ7 hF ha => ?_)
            refine g_aload_n (i := 0) K hl dX4_pick_94 rfl rfl ?_
            refine mget_90 K dX4_pick_95 ?_
            refine g_aload_n (i := 0) K hl dX4_pick_98 rfl rfl ?_
            refine mget_91 K dX4_pick_99 ?_
            refine g_iconst K dX4_pick_102 lc_m1 ?_
            refine mst_90 K hF ha rfl dX4_pick_103 (fun σ8 hF ha => ?_)
            refine g_aload_n (i := 0) K hl dX4_pick_104 rfl rfl ?_
            refine g_dup K dX4_pick_105 rfl ?_
            refine mget_91 K dX4_pick_106 ?_
            refine g_iconst K dX4_pick_109 lc_1 ?_
            refine g_iadd K dX4_pick_110 ?_
            refine mput_91 K hF ha rfl dX4_pick_111 (fun σ9 hF ha => ?_)
            refine g_aload_n (i := 0) K hl dX4_pick_114 rfl rfl ?_
            refine mget_91 K dX4_pick_115 ?_
            refine g_iconst K dX4_pick_118 lc_1 ?_
            refine g_isub K dX4_pick_119 ?_
            exact m_iretW K hF ha dX4_pick_120
          · refine g_iconst K dX4_pick_49 lc_m1 ?_
            exact m_iretW K hF ha dX4_pick_50

theorem cp_untell : cpV yX4_untell cX4_untell 2 (some .boolean) 1 := ⟨q2306, q2307, q152, q2308, by decide +kernel⟩
set_option maxHeartbeats 4000000 in
set_option maxRecDepth 100000 in
theorem w_untell {l : Launch} {D : va_G} {cz : Nat → ClassId} {qm : Nat} (σ0 : MS) (a0 : Int32) (r : (Int32 × MS)) (hF : M_untell σ0 a0 = some r) : mMet l D cz qm yX4_untell cX4_untell 2 (some .boolean) 1 wr_untell [.ref qm, .int a0] σ0 (some (.int r.1)) r.2 := by
  refine m_of (by decide) rfl ?_
  intro p e s m args below meth c ls K hl
  have ha : ag wr_untell σ0 σ0 := ag.rf
  unfold M_untell at hF
  refine g_iload_n (i := 1) K hl dX4_untell_0 rfl rfl ?_
  refine g_iconst K dX4_untell_1 lc_0 ?_
  refine g_aload_n (i := 0) K hl dX4_untell_2 rfl rfl ?_
  refine mget_91 K dX4_untell_3 ?_
  refine g_iconst K dX4_untell_6 lc_1 ?_
  refine g_isub K dX4_untell_7 ?_
  refine m_callSP K hl hF (fun t h => w_isIn _ _ _ _ t h) cp_isIn q2008 rfl rfl rfl rfl rfl dX4_untell_8 (fun t1 hF => ?_)
  refine g_if_eq (tgt := 23) K hF dX4_untell_11 (by decide) (fun hF => ?_) (fun hF => ?_)
  · refine g_iconst K dX4_untell_23 lc_0 ?_
    exact m_zretW K hF (Or.inl rfl) ha dX4_untell_24
  · refine g_aload_n (i := 0) K hl dX4_untell_14 rfl rfl ?_
    refine mget_90 K dX4_untell_15 ?_
    refine g_iload_n (i := 1) K hl dX4_untell_18 rfl rfl ?_
    refine mld_90 K hF dX4_untell_19 (fun t2 hF => ?_)
    refine g_if_lt (tgt := 25) K hF dX4_untell_20 (by decide) (fun hF => ?_) (fun hF => ?_)
    · refine g_aload_n (i := 0) K hl dX4_untell_25 rfl rfl ?_
      refine mget_90 K dX4_untell_26 ?_
      refine g_iload_n (i := 1) K hl dX4_untell_29 rfl rfl ?_
      refine g_aload_n (i := 0) K hl dX4_untell_30 rfl rfl ?_
      refine mget_92 K dX4_untell_31 ?_
      refine mst_90 K hF ha rfl dX4_untell_34 (fun σ3 hF ha => ?_)
      refine g_iconst K dX4_untell_35 lc_1 ?_
      exact m_zretW K hF (Or.inr rfl) ha dX4_untell_36
    · refine g_iconst K dX4_untell_23 lc_0 ?_
      exact m_zretW K hF (Or.inl rfl) ha dX4_untell_24

theorem cp_later : cpV yX4_later cX4_later 2 (some .int) 1 := ⟨q2310, q2311, q152, q2312, by decide +kernel⟩
set_option maxHeartbeats 4000000 in
set_option maxRecDepth 100000 in
theorem w_later {l : Launch} {D : va_G} {cz : Nat → ClassId} {qm : Nat} (σ0 : MS) (a0 : Int32) (r : (Int32 × MS)) (hF : M_later σ0 a0 = some r) : mMet l D cz qm yX4_later cX4_later 2 (some .int) 0 wr_later [.ref qm, .int a0] σ0 (some (.int r.1)) r.2 := by
  refine m_of (by decide) rfl ?_
  intro p e s m args below meth c ls K hl
  have ha : ag wr_later σ0 σ0 := ag.rf
  unfold M_later at hF
  refine g_iload_n (i := 1) K hl dX4_later_0 rfl rfl ?_
  refine g_if_lt (tgt := 23) K hF dX4_later_1 (by decide) (fun hF => ?_) (fun hF => ?_)
  · refine g_iconst K dX4_later_23 lc_m1 ?_
    exact m_iretW K hF ha dX4_later_24
  · refine g_iload_n (i := 1) K hl dX4_later_4 rfl rfl ?_
    refine g_sipush K dX4_later_5 ls_1000 ?_
    refine g_icmp_gt (tgt := 23) K hF dX4_later_8 (by decide) (fun hF => ?_) (fun hF => ?_)
    · refine g_iconst K dX4_later_23 lc_m1 ?_
      exact m_iretW K hF ha dX4_later_24
    · refine g_aload_n (i := 0) K hl dX4_later_11 rfl rfl ?_
      refine mget_92 K dX4_later_12 ?_
      refine g_iload_n (i := 1) K hl dX4_later_15 rfl rfl ?_
      refine g_iadd K dX4_later_16 ?_
      refine g_ldcw K dX4_later_17 q2313 ?_
      refine g_icmp_le (tgt := 25) K hF dX4_later_20 (by decide) (fun hF => ?_) (fun hF => ?_)
      · refine g_aload_n (i := 0) K hl dX4_later_25 rfl rfl ?_
        refine g_dup K dX4_later_26 rfl ?_
        refine mget_92 K dX4_later_27 ?_
        refine g_iload_n (i := 1) K hl dX4_later_30 rfl rfl ?_
        refine g_iadd K dX4_later_31 ?_
        refine mput_92 K hF ha rfl dX4_later_32 (fun σ1 hF ha => ?_)
        refine g_aload_n (i := 0) K hl dX4_later_35 rfl rfl ?_
        refine mget_92 K dX4_later_36 ?_
        exact m_iretW K hF ha dX4_later_39
      · refine g_iconst K dX4_later_23 lc_m1 ?_
        exact m_iretW K hF ha dX4_later_24

theorem cp_counts : cpV yX4_counts cX4_counts 3 (some .boolean) 2 := ⟨q2320, qs141, q152, q2321, by decide +kernel⟩
set_option maxHeartbeats 4000000 in
set_option maxRecDepth 100000 in
theorem w_counts {l : Launch} {D : va_G} {cz : Nat → ClassId} {qm : Nat} (σ0 : MS) (a0 : Int32) (a1 : Int32) (r : Int32) (hF : M_counts σ0 a0 a1 = some r) : mMet l D cz qm yX4_counts cX4_counts 3 (some .boolean) 0 wr_counts [.ref qm, .int a0, .int a1] σ0 (some (.int r)) σ0 := by
  refine m_of (by decide) rfl ?_
  intro p e s m args below meth c ls K hl
  unfold M_counts at hF
  refine g_aload_n (i := 0) K hl dX4_counts_0 rfl rfl ?_
  refine mget_89 K dX4_counts_1 ?_
  refine g_iload_n (i := 1) K hl dX4_counts_4 rfl rfl ?_
  refine mld_89 K hF dX4_counts_5 (fun t1 hF => ?_)
  refine g_iload_n (i := 2) K hl dX4_counts_6 rfl rfl ?_
  refine g_icmp_gt (tgt := 33) K hF dX4_counts_7 (by decide) (fun hF => ?_) (fun hF => ?_)
  · refine g_iconst K dX4_counts_33 lc_0 ?_
    exact m_zretP K hF (Or.inl rfl) ag.rf dX4_counts_34
  · refine g_aload_n (i := 0) K hl dX4_counts_10 rfl rfl ?_
    refine mget_90 K dX4_counts_11 ?_
    refine g_iload_n (i := 1) K hl dX4_counts_14 rfl rfl ?_
    refine mld_90 K hF dX4_counts_15 (fun t2 hF => ?_)
    refine g_if_lt (tgt := 29) K hF dX4_counts_16 (by decide) (fun hF => ?_) (fun hF => ?_)
    · refine g_iconst K dX4_counts_29 lc_1 ?_
      refine g_goto (tgt := 34) K dX4_counts_30 (by decide) ?_
      exact m_zretP K hF (Or.inr rfl) ag.rf dX4_counts_34
    · refine g_aload_n (i := 0) K hl dX4_counts_19 rfl rfl ?_
      refine mget_90 K dX4_counts_20 ?_
      refine g_iload_n (i := 1) K hl dX4_counts_23 rfl rfl ?_
      refine mld_90 K hF dX4_counts_24 (fun t3 hF => ?_)
      refine g_iload_n (i := 2) K hl dX4_counts_25 rfl rfl ?_
      refine g_icmp_le (tgt := 33) K hF dX4_counts_26 (by decide) (fun hF => ?_) (fun hF => ?_)
      · refine g_iconst K dX4_counts_33 lc_0 ?_
        exact m_zretP K hF (Or.inl rfl) ag.rf dX4_counts_34
      · refine g_iconst K dX4_counts_29 lc_1 ?_
        refine g_goto (tgt := 34) K dX4_counts_30 (by decide) ?_
        exact m_zretP K hF (Or.inr rfl) ag.rf dX4_counts_34

theorem cp_takenBy : cpV yX4_takenBy cX4_takenBy 7 (some .int) 2 := ⟨q2324, qs142, q152, q2325, by decide +kernel⟩
set_option maxHeartbeats 4000000 in
set_option maxRecDepth 100000 in
theorem w_takenBy {l : Launch} {D : va_G} {cz : Nat → ClassId} {qm : Nat} (G : Nat) (σ0 : MS) (a0 : Int32) (a1 : Int32) (r : (Int32 × MS)) (hF : M_takenBy G σ0 a0 a1 = some r) : mMet l D cz qm yX4_takenBy cX4_takenBy 7 (some .int) 5 wr_takenBy [.ref qm, .int a0, .int a1] σ0 (some (.int r.1)) r.2 := by
  refine m_of (by decide) rfl ?_
  intro p e s m args below meth c ls K hl
  have B8 : ∀ (k8 : MS → Int32 → Int32 → Int32 → Int32 → Int32 → Option (Int32 × MS)) (hk8 : (∀ (σ : MS) (x1 : Int32) (x2 : Int32) (x3 : Int32) (x4 : Int32) (x5 : Int32) (ls : Array Slot), k8 σ x1 x2 x3 x4 x5 = some r → ag wr_takenBy σ0 σ → lq ls 7 [(0, some (.ref qm)), (1, some (.int x1)), (2, some (.int x2)), (3, some (.int x3)), (4, some (.int x4)), (5, some (.int x5))] → ZM p l e 5 s m args below meth c D cz qm wr_takenBy σ0 (some (.int r.1)) r.2 σ (F0 m 8 ls []))) (σ : MS) (x1 : Int32) (x2 : Int32) (x3 : Int32) (x4 : Int32) (x5 : Int32) (ls : Array Slot), M_takenBy_B8 G k8 σ x1 x2 x3 x4 x5 = some r → ag wr_takenBy σ0 σ → lq ls 7 [(0, some (.ref qm)), (1, some (.int x1)), (2, some (.int x2)), (3, some (.int x3)), (4, some (.int x4)), (5, some (.int x5))] → ZM p l e 5 s m args below meth c D cz qm wr_takenBy σ0 (some (.int r.1)) r.2 σ (F0 m 8 ls []) := by
    intro k8 hk8 σ x1 x2 x3 x4 x5 ls hF ha hl
    unfold M_takenBy_B8 at hF
    refine g_iload (i := 5) K hl dX4_takenBy_8 rfl ?_
    refine g_aload_n (i := 0) K hl dX4_takenBy_10 rfl rfl ?_
    refine mget_60 K dX4_takenBy_11 ?_
    refine g_icmp_ge (tgt := 92) K hF dX4_takenBy_14 (by decide) (fun hF => ?_) (fun hF => ?_)
    · refine g_iload_n (i := 3) K hl dX4_takenBy_92 rfl rfl ?_
      exact m_iretW K hF ha dX4_takenBy_93
    · refine g_aload_n (i := 0) K hl dX4_takenBy_17 rfl rfl ?_
      refine mget_87 K dX4_takenBy_18 ?_
      refine g_iload_n (i := 2) K hl dX4_takenBy_21 rfl rfl ?_
      refine mld_87 K hF dX4_takenBy_22 (fun t1 hF => ?_)
      refine g_iload (i := 5) K hl dX4_takenBy_23 rfl ?_
      refine g_ishr K dX4_takenBy_25 ?_
      refine g_iconst K dX4_takenBy_26 lc_1 ?_
      refine g_iand K dX4_takenBy_27 ?_
      refine g_if_ne (tgt := 34) K hF dX4_takenBy_28 (by decide) (fun hF => ?_) (fun hF => ?_)
      · refine g_aload_n (i := 0) K hl dX4_takenBy_34 rfl rfl ?_
        refine g_iconst K dX4_takenBy_35 lc_5 ?_
        refine g_iload_n (i := 1) K hl dX4_takenBy_36 rfl rfl ?_
        refine g_iadd K dX4_takenBy_37 ?_
        refine g_aload_n (i := 0) K hl dX4_takenBy_38 rfl rfl ?_
        refine mget_86 K dX4_takenBy_39 ?_
        refine g_iload_n (i := 2) K hl dX4_takenBy_42 rfl rfl ?_
        refine mld_86 K hF dX4_takenBy_43 (fun t2 hF => ?_)
        refine g_iload (i := 5) K hl dX4_takenBy_44 rfl ?_
        refine g_iconst K dX4_takenBy_46 lc_0 ?_
        refine g_aload_n (i := 0) K hl dX4_takenBy_47 rfl rfl ?_
        refine g_aload_n (i := 0) K hl dX4_takenBy_48 rfl rfl ?_
        refine mget_86 K dX4_takenBy_49 ?_
        refine g_iload_n (i := 2) K hl dX4_takenBy_52 rfl rfl ?_
        refine mld_86 K hF dX4_takenBy_53 (fun t3 hF => ?_)
        refine g_iload (i := 5) K hl dX4_takenBy_54 rfl ?_
        refine g_iconst K dX4_takenBy_56 lc_0 ?_
        refine m_callVW K hl hF ha rfl (fun t h => w_oddsOf G _ _ _ _ t h) rfl cp_oddsOf q2065 rfl rfl rfl rfl rfl dX4_takenBy_57 (fun t5 σ4 hF ha => ?_)
        refine m_callVW K hl hF ha rfl (fun t h => w_worked G _ _ _ _ _ _ t h) rfl cp_worked q2069 rfl rfl rfl rfl rfl dX4_takenBy_60 (fun t7 σ6 hF ha => ?_)
        refine g_istore (i := 6) K hl dX4_takenBy_63 rfl rfl (fun ls hl => ?_)
        refine g_iload_n (i := 3) K hl dX4_takenBy_65 rfl rfl ?_
        refine g_if_lt (tgt := 79) K hF dX4_takenBy_66 (by decide) (fun hF => ?_) (fun hF => ?_)
        · refine g_iload (i := 5) K hl dX4_takenBy_79 rfl ?_
          refine g_istore_n (i := 3) K hl dX4_takenBy_81 rfl rfl rfl (fun ls hl => ?_)
          refine g_iload (i := 6) K hl dX4_takenBy_82 rfl ?_
          refine g_istore (i := 4) K hl dX4_takenBy_84 rfl rfl (fun ls hl => ?_)
          refine g_iinc (i := 5) K hl dX4_takenBy_86 rfl lc_1 rfl rfl (fun ls hl => ?_)
          refine g_goto (tgt := 8) K dX4_takenBy_89 (by decide) ?_
          exact hk8 _ _ _ _ _ _ ls hF ha (lq_sub hl rfl)
        · refine g_iload (i := 6) K hl dX4_takenBy_69 rfl ?_
          refine g_iload (i := 4) K hl dX4_takenBy_71 rfl ?_
          refine g_icmp_gt (tgt := 79) K hF dX4_takenBy_73 (by decide) (fun hF => ?_) (fun hF => ?_)
          · refine g_iload (i := 5) K hl dX4_takenBy_79 rfl ?_
            refine g_istore_n (i := 3) K hl dX4_takenBy_81 rfl rfl rfl (fun ls hl => ?_)
            refine g_iload (i := 6) K hl dX4_takenBy_82 rfl ?_
            refine g_istore (i := 4) K hl dX4_takenBy_84 rfl rfl (fun ls hl => ?_)
            refine g_iinc (i := 5) K hl dX4_takenBy_86 rfl lc_1 rfl rfl (fun ls hl => ?_)
            refine g_goto (tgt := 8) K dX4_takenBy_89 (by decide) ?_
            exact hk8 _ _ _ _ _ _ ls hF ha (lq_sub hl rfl)
          · refine g_goto (tgt := 86) K dX4_takenBy_76 (by decide) ?_
            refine g_iinc (i := 5) K hl dX4_takenBy_86 rfl lc_1 rfl rfl (fun ls hl => ?_)
            refine g_goto (tgt := 8) K dX4_takenBy_89 (by decide) ?_
            exact hk8 _ _ _ _ _ _ ls hF ha (lq_sub hl rfl)
      · refine g_goto (tgt := 86) K dX4_takenBy_31 (by decide) ?_
        refine g_iinc (i := 5) K hl dX4_takenBy_86 rfl lc_1 rfl rfl (fun ls hl => ?_)
        refine g_goto (tgt := 8) K dX4_takenBy_89 (by decide) ?_
        exact hk8 _ _ _ _ _ _ ls hF ha (lq_sub hl rfl)
  have L8 : ∀  (n : Nat) (σ : MS) (x1 : Int32) (x2 : Int32) (x3 : Int32) (x4 : Int32) (x5 : Int32) (ls : Array Slot), M_takenBy_L8 G  n σ x1 x2 x3 x4 x5 = some r → ag wr_takenBy σ0 σ → lq ls 7 [(0, some (.ref qm)), (1, some (.int x1)), (2, some (.int x2)), (3, some (.int x3)), (4, some (.int x4)), (5, some (.int x5))] → ZM p l e 5 s m args below meth c D cz qm wr_takenBy σ0 (some (.int r.1)) r.2 σ (F0 m 8 ls []) := by
    intro  n
    induction n with
    | zero => intro σ x1 x2 x3 x4 x5 ls hF; exact absurd hF (fun h => by cases h)
    | succ n ih => intro σ x1 x2 x3 x4 x5 ls hF ha hl; exact B8  _ ih _ _ _ _ _ _ ls hF ha hl
  have ha : ag wr_takenBy σ0 σ0 := ag.rf
  unfold M_takenBy at hF
  refine g_iconst K dX4_takenBy_0 lc_m1 ?_
  refine g_istore_n (i := 3) K hl dX4_takenBy_1 rfl rfl rfl (fun ls hl => ?_)
  refine g_iconst K dX4_takenBy_2 lc_0 ?_
  refine g_istore (i := 4) K hl dX4_takenBy_3 rfl rfl (fun ls hl => ?_)
  refine g_iconst K dX4_takenBy_5 lc_0 ?_
  refine g_istore (i := 5) K hl dX4_takenBy_6 rfl rfl (fun ls hl => ?_)
  exact L8  G _ _ _ _ _ _ ls hF ha (lq_sub hl rfl)

theorem cp_fits : cpV yX4_fits cX4_fits 6 (some .int) 1 := ⟨q2315, q2316, q152, q2317, by decide +kernel⟩
set_option maxHeartbeats 4000000 in
set_option maxRecDepth 100000 in
theorem w_fits {l : Launch} {D : va_G} {cz : Nat → ClassId} {qm : Nat} (G : Nat) (σ0 : MS) (a0 : Int32) (r : (Int32 × MS)) (hF : M_fits G σ0 a0 = some r) : mMet l D cz qm yX4_fits cX4_fits 6 (some .int) 6 wr_fits [.ref qm, .int a0] σ0 (some (.int r.1)) r.2 := by
  refine m_of (by decide) rfl ?_
  intro p e s m args below meth c ls K hl
  have B22 : ∀ (k8 : MS → Int32 → Int32 → Int32 → Option (Int32 × MS)) (hk8 : (∀ (σ : MS) (x1 : Int32) (x2 : Int32) (x3 : Int32) (ls : Array Slot), k8 σ x1 x2 x3 = some r → ag wr_fits σ0 σ → lq ls 6 [(0, some (.ref qm)), (1, some (.int x1)), (2, some (.int x2)), (3, some (.int x3))] → ZM p l e 6 s m args below meth c D cz qm wr_fits σ0 (some (.int r.1)) r.2 σ (F0 m 8 ls []))) (k22 : MS → Int32 → Int32 → Int32 → Int32 → Int32 → Option (Int32 × MS)) (hk22 : (∀ (σ : MS) (x1 : Int32) (x2 : Int32) (x3 : Int32) (x4 : Int32) (x5 : Int32) (ls : Array Slot), k22 σ x1 x2 x3 x4 x5 = some r → ag wr_fits σ0 σ → lq ls 6 [(0, some (.ref qm)), (1, some (.int x1)), (2, some (.int x2)), (3, some (.int x3)), (4, some (.int x4)), (5, some (.int x5))] → ZM p l e 6 s m args below meth c D cz qm wr_fits σ0 (some (.int r.1)) r.2 σ (F0 m 22 ls []))) (σ : MS) (x1 : Int32) (x2 : Int32) (x3 : Int32) (x4 : Int32) (x5 : Int32) (ls : Array Slot), M_fits_B22 G k8 k22 σ x1 x2 x3 x4 x5 = some r → ag wr_fits σ0 σ → lq ls 6 [(0, some (.ref qm)), (1, some (.int x1)), (2, some (.int x2)), (3, some (.int x3)), (4, some (.int x4)), (5, some (.int x5))] → ZM p l e 6 s m args below meth c D cz qm wr_fits σ0 (some (.int r.1)) r.2 σ (F0 m 22 ls []) := by
    intro k8 hk8 k22 hk22 σ x1 x2 x3 x4 x5 ls hF ha hl
    unfold M_fits_B22 at hF
    refine g_iload (i := 5) K hl dX4_fits_22 rfl ?_
    refine g_aload_n (i := 0) K hl dX4_fits_24 rfl rfl ?_
    refine mget_91 K dX4_fits_25 ?_
    refine g_icmp_ge (tgt := 76) K hF dX4_fits_28 (by decide) (fun hF => ?_) (fun hF => ?_)
    · refine g_iload_n (i := 2) K hl dX4_fits_76 rfl rfl ?_
      refine g_iload (i := 4) K hl dX4_fits_77 rfl ?_
      refine g_if_eq (tgt := 88) K hF dX4_fits_79 (by decide) (fun hF => ?_) (fun hF => ?_)
      · refine g_iconst K dX4_fits_88 lc_0 ?_
        refine g_ior K dX4_fits_89 ?_
        refine g_istore_n (i := 2) K hl dX4_fits_90 rfl rfl rfl (fun ls hl => ?_)
        refine g_iinc (i := 3) K hl dX4_fits_91 rfl lc_1 rfl rfl (fun ls hl => ?_)
        refine g_goto (tgt := 8) K dX4_fits_94 (by decide) ?_
        exact hk8 _ _ _ _ ls hF ha (lq_sub hl rfl)
      · refine g_iconst K dX4_fits_82 lc_1 ?_
        refine g_iload_n (i := 3) K hl dX4_fits_83 rfl rfl ?_
        refine g_ishl K dX4_fits_84 ?_
        refine g_goto (tgt := 89) K dX4_fits_85 (by decide) ?_
        refine g_ior K dX4_fits_89 ?_
        refine g_istore_n (i := 2) K hl dX4_fits_90 rfl rfl rfl (fun ls hl => ?_)
        refine g_iinc (i := 3) K hl dX4_fits_91 rfl lc_1 rfl rfl (fun ls hl => ?_)
        refine g_goto (tgt := 8) K dX4_fits_94 (by decide) ?_
        exact hk8 _ _ _ _ ls hF ha (lq_sub hl rfl)
    · refine g_iload (i := 4) K hl dX4_fits_31 rfl ?_
      refine g_if_eq (tgt := 67) K hF dX4_fits_33 (by decide) (fun hF => ?_) (fun hF => ?_)
      · refine g_iconst K dX4_fits_67 lc_0 ?_
        refine g_istore (i := 4) K hl dX4_fits_68 rfl rfl (fun ls hl => ?_)
        refine g_iinc (i := 5) K hl dX4_fits_70 rfl lc_1 rfl rfl (fun ls hl => ?_)
        refine g_goto (tgt := 22) K dX4_fits_73 (by decide) ?_
        exact hk22 _ _ _ _ _ _ ls hF ha (lq_sub hl rfl)
      · refine g_aload_n (i := 0) K hl dX4_fits_36 rfl rfl ?_
        refine g_iload (i := 5) K hl dX4_fits_37 rfl ?_
        refine g_iload_n (i := 1) K hl dX4_fits_39 rfl rfl ?_
        refine m_callVP K hl hF (fun t h => w_counts _ _ _ t h) rfl cp_counts q2318 rfl rfl rfl rfl rfl dX4_fits_40 (fun t1 hF => ?_)
        refine g_if_eq (tgt := 63) K hF dX4_fits_43 (by decide) (fun hF => ?_) (fun hF => ?_)
        · refine g_iconst K dX4_fits_63 lc_1 ?_
          refine g_goto (tgt := 68) K dX4_fits_64 (by decide) ?_
          refine g_istore (i := 4) K hl dX4_fits_68 rfl rfl (fun ls hl => ?_)
          refine g_iinc (i := 5) K hl dX4_fits_70 rfl lc_1 rfl rfl (fun ls hl => ?_)
          refine g_goto (tgt := 22) K dX4_fits_73 (by decide) ?_
          exact hk22 _ _ _ _ _ _ ls hF ha (lq_sub hl rfl)
        · refine g_aload_n (i := 0) K hl dX4_fits_46 rfl rfl ?_
          refine g_iload_n (i := 3) K hl dX4_fits_47 rfl rfl ?_
          refine g_iload (i := 5) K hl dX4_fits_48 rfl ?_
          refine m_callVW K hl hF ha rfl (fun t h => w_takenBy G _ _ _ t h) rfl cp_takenBy q2322 rfl rfl rfl rfl rfl dX4_fits_50 (fun t3 σ2 hF ha => ?_)
          refine g_aload_n (i := 0) K hl dX4_fits_53 rfl rfl ?_
          refine mget_88 K dX4_fits_54 ?_
          refine g_iload (i := 5) K hl dX4_fits_57 rfl ?_
          refine mld_88 K hF dX4_fits_59 (fun t4 hF => ?_)
          refine g_icmp_ne (tgt := 67) K hF dX4_fits_60 (by decide) (fun hF => ?_) (fun hF => ?_)
          · refine g_iconst K dX4_fits_67 lc_0 ?_
            refine g_istore (i := 4) K hl dX4_fits_68 rfl rfl (fun ls hl => ?_)
            refine g_iinc (i := 5) K hl dX4_fits_70 rfl lc_1 rfl rfl (fun ls hl => ?_)
            refine g_goto (tgt := 22) K dX4_fits_73 (by decide) ?_
            exact hk22 _ _ _ _ _ _ ls hF ha (lq_sub hl rfl)
          · refine g_iconst K dX4_fits_63 lc_1 ?_
            refine g_goto (tgt := 68) K dX4_fits_64 (by decide) ?_
            refine g_istore (i := 4) K hl dX4_fits_68 rfl rfl (fun ls hl => ?_)
            refine g_iinc (i := 5) K hl dX4_fits_70 rfl lc_1 rfl rfl (fun ls hl => ?_)
            refine g_goto (tgt := 22) K dX4_fits_73 (by decide) ?_
            exact hk22 _ _ _ _ _ _ ls hF ha (lq_sub hl rfl)
  have L22 : ∀ (k8 : MS → Int32 → Int32 → Int32 → Option (Int32 × MS)) (hk8 : (∀ (σ : MS) (x1 : Int32) (x2 : Int32) (x3 : Int32) (ls : Array Slot), k8 σ x1 x2 x3 = some r → ag wr_fits σ0 σ → lq ls 6 [(0, some (.ref qm)), (1, some (.int x1)), (2, some (.int x2)), (3, some (.int x3))] → ZM p l e 6 s m args below meth c D cz qm wr_fits σ0 (some (.int r.1)) r.2 σ (F0 m 8 ls []))) (n : Nat) (σ : MS) (x1 : Int32) (x2 : Int32) (x3 : Int32) (x4 : Int32) (x5 : Int32) (ls : Array Slot), M_fits_L22 G k8 n σ x1 x2 x3 x4 x5 = some r → ag wr_fits σ0 σ → lq ls 6 [(0, some (.ref qm)), (1, some (.int x1)), (2, some (.int x2)), (3, some (.int x3)), (4, some (.int x4)), (5, some (.int x5))] → ZM p l e 6 s m args below meth c D cz qm wr_fits σ0 (some (.int r.1)) r.2 σ (F0 m 22 ls []) := by
    intro k8 hk8 n
    induction n with
    | zero => intro σ x1 x2 x3 x4 x5 ls hF; exact absurd hF (fun h => by cases h)
    | succ n ih => intro σ x1 x2 x3 x4 x5 ls hF ha hl; exact B22 k8 hk8 _ ih _ _ _ _ _ _ ls hF ha hl
  have B8 : ∀ (k8 : MS → Int32 → Int32 → Int32 → Option (Int32 × MS)) (hk8 : (∀ (σ : MS) (x1 : Int32) (x2 : Int32) (x3 : Int32) (ls : Array Slot), k8 σ x1 x2 x3 = some r → ag wr_fits σ0 σ → lq ls 6 [(0, some (.ref qm)), (1, some (.int x1)), (2, some (.int x2)), (3, some (.int x3))] → ZM p l e 6 s m args below meth c D cz qm wr_fits σ0 (some (.int r.1)) r.2 σ (F0 m 8 ls []))) (σ : MS) (x1 : Int32) (x2 : Int32) (x3 : Int32) (ls : Array Slot), M_fits_B8 G k8 σ x1 x2 x3 = some r → ag wr_fits σ0 σ → lq ls 6 [(0, some (.ref qm)), (1, some (.int x1)), (2, some (.int x2)), (3, some (.int x3))] → ZM p l e 6 s m args below meth c D cz qm wr_fits σ0 (some (.int r.1)) r.2 σ (F0 m 8 ls []) := by
    intro k8 hk8 σ x1 x2 x3 ls hF ha hl
    unfold M_fits_B8 at hF
    refine g_iload_n (i := 3) K hl dX4_fits_8 rfl rfl ?_
    refine g_aload_n (i := 0) K hl dX4_fits_9 rfl rfl ?_
    refine mget_59 K dX4_fits_10 ?_
    refine g_icmp_ge (tgt := 97) K hF dX4_fits_13 (by decide) (fun hF => ?_) (fun hF => ?_)
    · refine g_iload_n (i := 2) K hl dX4_fits_97 rfl rfl ?_
      exact m_iretW K hF ha dX4_fits_98
    · refine g_iconst K dX4_fits_16 lc_1 ?_
      refine g_istore (i := 4) K hl dX4_fits_17 rfl rfl (fun ls hl => ?_)
      refine g_iconst K dX4_fits_19 lc_0 ?_
      refine g_istore (i := 5) K hl dX4_fits_20 rfl rfl (fun ls hl => ?_)
      exact L22 k8 hk8 G _ _ _ _ _ _ ls hF ha (lq_sub hl rfl)
  have L8 : ∀  (n : Nat) (σ : MS) (x1 : Int32) (x2 : Int32) (x3 : Int32) (ls : Array Slot), M_fits_L8 G  n σ x1 x2 x3 = some r → ag wr_fits σ0 σ → lq ls 6 [(0, some (.ref qm)), (1, some (.int x1)), (2, some (.int x2)), (3, some (.int x3))] → ZM p l e 6 s m args below meth c D cz qm wr_fits σ0 (some (.int r.1)) r.2 σ (F0 m 8 ls []) := by
    intro  n
    induction n with
    | zero => intro σ x1 x2 x3 ls hF; exact absurd hF (fun h => by cases h)
    | succ n ih => intro σ x1 x2 x3 ls hF ha hl; exact B8  _ ih _ _ _ _ ls hF ha hl
  have ha : ag wr_fits σ0 σ0 := ag.rf
  unfold M_fits at hF
  refine g_aload_n (i := 0) K hl dX4_fits_0 rfl rfl ?_
  refine m_callVV K hl hF ha rfl (fun t h => w_layTold G _  t h) rfl cp_layTold q1988 rfl rfl rfl rfl rfl dX4_fits_1 (fun σ1 hF ha => ?_)
  refine g_iconst K dX4_fits_4 lc_0 ?_
  refine g_istore_n (i := 2) K hl dX4_fits_5 rfl rfl rfl (fun ls hl => ?_)
  refine g_iconst K dX4_fits_6 lc_0 ?_
  refine g_istore_n (i := 3) K hl dX4_fits_7 rfl rfl rfl (fun ls hl => ?_)
  exact L8  G _ _ _ _ ls hF ha (lq_sub hl rfl)

theorem cp_falseBy : cpV yX4_falseBy cX4_falseBy 5 (some .int) 2 := ⟨q2332, qs143, q152, q2333, by decide +kernel⟩
set_option maxHeartbeats 4000000 in
set_option maxRecDepth 100000 in
theorem w_falseBy {l : Launch} {D : va_G} {cz : Nat → ClassId} {qm : Nat} (G : Nat) (σ0 : MS) (a0 : Int32) (a1 : Int32) (r : (Int32 × MS)) (hF : M_falseBy G σ0 a0 a1 = some r) : mMet l D cz qm yX4_falseBy cX4_falseBy 5 (some .int) 6 wr_falseBy [.ref qm, .int a0, .int a1] σ0 (some (.int r.1)) r.2 := by
  refine m_of (by decide) rfl ?_
  intro p e s m args below meth c ls K hl
  have B5 : ∀ (k5 : MS → Int32 → Int32 → Int32 → Int32 → Option (Int32 × MS)) (hk5 : (∀ (σ : MS) (x1 : Int32) (x2 : Int32) (x3 : Int32) (x4 : Int32) (ls : Array Slot), k5 σ x1 x2 x3 x4 = some r → ag wr_falseBy σ0 σ → lq ls 5 [(0, some (.ref qm)), (1, some (.int x1)), (2, some (.int x2)), (3, some (.int x3)), (4, some (.int x4))] → ZM p l e 6 s m args below meth c D cz qm wr_falseBy σ0 (some (.int r.1)) r.2 σ (F0 m 5 ls []))) (σ : MS) (x1 : Int32) (x2 : Int32) (x3 : Int32) (x4 : Int32) (ls : Array Slot), M_falseBy_B5 G k5 σ x1 x2 x3 x4 = some r → ag wr_falseBy σ0 σ → lq ls 5 [(0, some (.ref qm)), (1, some (.int x1)), (2, some (.int x2)), (3, some (.int x3)), (4, some (.int x4))] → ZM p l e 6 s m args below meth c D cz qm wr_falseBy σ0 (some (.int r.1)) r.2 σ (F0 m 5 ls []) := by
    intro k5 hk5 σ x1 x2 x3 x4 ls hF ha hl
    unfold M_falseBy_B5 at hF
    refine g_iload (i := 4) K hl dX4_falseBy_5 rfl ?_
    refine g_aload_n (i := 0) K hl dX4_falseBy_7 rfl rfl ?_
    refine mget_91 K dX4_falseBy_8 ?_
    refine g_icmp_ge (tgt := 55) K hF dX4_falseBy_11 (by decide) (fun hF => ?_) (fun hF => ?_)
    · refine g_iload_n (i := 3) K hl dX4_falseBy_55 rfl rfl ?_
      exact m_iretW K hF ha dX4_falseBy_56
    · refine g_iload_n (i := 3) K hl dX4_falseBy_14 rfl rfl ?_
      refine g_aload_n (i := 0) K hl dX4_falseBy_15 rfl rfl ?_
      refine g_iload (i := 4) K hl dX4_falseBy_16 rfl ?_
      refine g_iload_n (i := 2) K hl dX4_falseBy_18 rfl rfl ?_
      refine m_callVP K hl hF (fun t h => w_counts _ _ _ t h) rfl cp_counts q2318 rfl rfl rfl rfl rfl dX4_falseBy_19 (fun t1 hF => ?_)
      refine g_if_eq (tgt := 46) K hF dX4_falseBy_22 (by decide) (fun hF => ?_) (fun hF => ?_)
      · refine g_iconst K dX4_falseBy_46 lc_0 ?_
        refine g_iadd K dX4_falseBy_47 ?_
        refine g_istore_n (i := 3) K hl dX4_falseBy_48 rfl rfl rfl (fun ls hl => ?_)
        refine g_iinc (i := 4) K hl dX4_falseBy_49 rfl lc_1 rfl rfl (fun ls hl => ?_)
        refine g_goto (tgt := 5) K dX4_falseBy_52 (by decide) ?_
        exact hk5 _ _ _ _ _ ls hF ha (lq_sub hl rfl)
      · refine g_aload_n (i := 0) K hl dX4_falseBy_25 rfl rfl ?_
        refine g_iload_n (i := 1) K hl dX4_falseBy_26 rfl rfl ?_
        refine g_iload (i := 4) K hl dX4_falseBy_27 rfl ?_
        refine m_callVW K hl hF ha rfl (fun t h => w_takenBy G _ _ _ t h) rfl cp_takenBy q2322 rfl rfl rfl rfl rfl dX4_falseBy_29 (fun t3 σ2 hF ha => ?_)
        refine g_aload_n (i := 0) K hl dX4_falseBy_32 rfl rfl ?_
        refine mget_88 K dX4_falseBy_33 ?_
        refine g_iload (i := 4) K hl dX4_falseBy_36 rfl ?_
        refine mld_88 K hF dX4_falseBy_38 (fun t4 hF => ?_)
        refine g_icmp_eq (tgt := 46) K hF dX4_falseBy_39 (by decide) (fun hF => ?_) (fun hF => ?_)
        · refine g_iconst K dX4_falseBy_46 lc_0 ?_
          refine g_iadd K dX4_falseBy_47 ?_
          refine g_istore_n (i := 3) K hl dX4_falseBy_48 rfl rfl rfl (fun ls hl => ?_)
          refine g_iinc (i := 4) K hl dX4_falseBy_49 rfl lc_1 rfl rfl (fun ls hl => ?_)
          refine g_goto (tgt := 5) K dX4_falseBy_52 (by decide) ?_
          exact hk5 _ _ _ _ _ ls hF ha (lq_sub hl rfl)
        · refine g_iconst K dX4_falseBy_42 lc_1 ?_
          refine g_goto (tgt := 47) K dX4_falseBy_43 (by decide) ?_
          refine g_iadd K dX4_falseBy_47 ?_
          refine g_istore_n (i := 3) K hl dX4_falseBy_48 rfl rfl rfl (fun ls hl => ?_)
          refine g_iinc (i := 4) K hl dX4_falseBy_49 rfl lc_1 rfl rfl (fun ls hl => ?_)
          refine g_goto (tgt := 5) K dX4_falseBy_52 (by decide) ?_
          exact hk5 _ _ _ _ _ ls hF ha (lq_sub hl rfl)
  have L5 : ∀  (n : Nat) (σ : MS) (x1 : Int32) (x2 : Int32) (x3 : Int32) (x4 : Int32) (ls : Array Slot), M_falseBy_L5 G  n σ x1 x2 x3 x4 = some r → ag wr_falseBy σ0 σ → lq ls 5 [(0, some (.ref qm)), (1, some (.int x1)), (2, some (.int x2)), (3, some (.int x3)), (4, some (.int x4))] → ZM p l e 6 s m args below meth c D cz qm wr_falseBy σ0 (some (.int r.1)) r.2 σ (F0 m 5 ls []) := by
    intro  n
    induction n with
    | zero => intro σ x1 x2 x3 x4 ls hF; exact absurd hF (fun h => by cases h)
    | succ n ih => intro σ x1 x2 x3 x4 ls hF ha hl; exact B5  _ ih _ _ _ _ _ ls hF ha hl
  have ha : ag wr_falseBy σ0 σ0 := ag.rf
  unfold M_falseBy at hF
  refine g_iconst K dX4_falseBy_0 lc_0 ?_
  refine g_istore_n (i := 3) K hl dX4_falseBy_1 rfl rfl rfl (fun ls hl => ?_)
  refine g_iconst K dX4_falseBy_2 lc_0 ?_
  refine g_istore (i := 4) K hl dX4_falseBy_3 rfl rfl (fun ls hl => ?_)
  exact L5  G _ _ _ _ _ ls hF ha (lq_sub hl rfl)

theorem cp_nearest : cpV yX4_nearest cX4_nearest 5 (some .int) 2 := ⟨q2327, q2328, q152, q2329, by decide +kernel⟩
set_option maxHeartbeats 4000000 in
set_option maxRecDepth 100000 in
theorem w_nearest {l : Launch} {D : va_G} {cz : Nat → ClassId} {qm : Nat} (G : Nat) (σ0 : MS) (a0 : Int32) (a1 : Int32) (r : (Int32 × MS)) (hF : M_nearest G σ0 a0 a1 = some r) : mMet l D cz qm yX4_nearest cX4_nearest 5 (some .int) 7 wr_nearest [.ref qm, .int a0, .int a1] σ0 (some (.int r.1)) r.2 := by
  refine m_of (by decide) rfl ?_
  intro p e s m args below meth c ls K hl
  have B27 : ∀ (k27 : MS → Int32 → Int32 → Int32 → Int32 → Option (Int32 × MS)) (hk27 : (∀ (σ : MS) (x1 : Int32) (x2 : Int32) (x3 : Int32) (x4 : Int32) (ls : Array Slot), k27 σ x1 x2 x3 x4 = some r → ag wr_nearest σ0 σ → lq ls 5 [(0, some (.ref qm)), (1, some (.int x1)), (2, some (.int x2)), (3, some (.int x3)), (4, some (.int x4))] → ZM p l e 7 s m args below meth c D cz qm wr_nearest σ0 (some (.int r.1)) r.2 σ (F0 m 27 ls []))) (σ : MS) (x1 : Int32) (x2 : Int32) (x3 : Int32) (x4 : Int32) (ls : Array Slot), M_nearest_B27 G k27 σ x1 x2 x3 x4 = some r → ag wr_nearest σ0 σ → lq ls 5 [(0, some (.ref qm)), (1, some (.int x1)), (2, some (.int x2)), (3, some (.int x3)), (4, some (.int x4))] → ZM p l e 7 s m args below meth c D cz qm wr_nearest σ0 (some (.int r.1)) r.2 σ (F0 m 27 ls []) := by
    intro k27 hk27 σ x1 x2 x3 x4 ls hF ha hl
    unfold M_nearest_B27 at hF
    refine g_iload (i := 4) K hl dX4_nearest_27 rfl ?_
    refine g_aload_n (i := 0) K hl dX4_nearest_29 rfl rfl ?_
    refine mget_59 K dX4_nearest_30 ?_
    refine g_icmp_ge (tgt := 65) K hF dX4_nearest_33 (by decide) (fun hF => ?_) (fun hF => ?_)
    · refine g_iload_n (i := 1) K hl dX4_nearest_65 rfl rfl ?_
      refine g_if_ne (tgt := 73) K hF dX4_nearest_66 (by decide) (fun hF => ?_) (fun hF => ?_)
      · refine g_aload_n (i := 0) K hl dX4_nearest_73 rfl rfl ?_
        refine g_iload_n (i := 3) K hl dX4_nearest_74 rfl rfl ?_
        refine g_iload_n (i := 2) K hl dX4_nearest_75 rfl rfl ?_
        refine m_callVW K hl hF ha rfl (fun t h => w_falseBy G _ _ _ t h) rfl cp_falseBy q2330 rfl rfl rfl rfl rfl dX4_nearest_76 (fun t2 σ1 hF ha => ?_)
        exact m_iretW K hF ha dX4_nearest_79
      · refine g_iload_n (i := 3) K hl dX4_nearest_69 rfl rfl ?_
        refine g_goto (tgt := 79) K dX4_nearest_70 (by decide) ?_
        exact m_iretW K hF ha dX4_nearest_79
    · refine g_aload_n (i := 0) K hl dX4_nearest_36 rfl rfl ?_
      refine g_iload (i := 4) K hl dX4_nearest_37 rfl ?_
      refine g_iload_n (i := 2) K hl dX4_nearest_39 rfl rfl ?_
      refine m_callVW K hl hF ha rfl (fun t h => w_falseBy G _ _ _ t h) rfl cp_falseBy q2330 rfl rfl rfl rfl rfl dX4_nearest_40 (fun t4 σ3 hF ha => ?_)
      refine g_aload_n (i := 0) K hl dX4_nearest_43 rfl rfl ?_
      refine g_iload_n (i := 3) K hl dX4_nearest_44 rfl rfl ?_
      refine g_iload_n (i := 2) K hl dX4_nearest_45 rfl rfl ?_
      refine m_callVW K hl hF ha rfl (fun t h => w_falseBy G _ _ _ t h) rfl cp_falseBy q2330 rfl rfl rfl rfl rfl dX4_nearest_46 (fun t6 σ5 hF ha => ?_)
      refine g_icmp_ge (tgt := 57) K hF dX4_nearest_49 (by decide) (fun hF => ?_) (fun hF => ?_)
      · refine g_iload_n (i := 3) K hl dX4_nearest_57 rfl rfl ?_
        refine g_istore_n (i := 3) K hl dX4_nearest_58 rfl rfl rfl (fun ls hl => ?_)
        refine g_iinc (i := 4) K hl dX4_nearest_59 rfl lc_1 rfl rfl (fun ls hl => ?_)
        refine g_goto (tgt := 27) K dX4_nearest_62 (by decide) ?_
        exact hk27 _ _ _ _ _ ls hF ha (lq_sub hl rfl)
      · refine g_iload (i := 4) K hl dX4_nearest_52 rfl ?_
        refine g_goto (tgt := 58) K dX4_nearest_54 (by decide) ?_
        refine g_istore_n (i := 3) K hl dX4_nearest_58 rfl rfl rfl (fun ls hl => ?_)
        refine g_iinc (i := 4) K hl dX4_nearest_59 rfl lc_1 rfl rfl (fun ls hl => ?_)
        refine g_goto (tgt := 27) K dX4_nearest_62 (by decide) ?_
        exact hk27 _ _ _ _ _ ls hF ha (lq_sub hl rfl)
  have L27 : ∀  (n : Nat) (σ : MS) (x1 : Int32) (x2 : Int32) (x3 : Int32) (x4 : Int32) (ls : Array Slot), M_nearest_L27 G  n σ x1 x2 x3 x4 = some r → ag wr_nearest σ0 σ → lq ls 5 [(0, some (.ref qm)), (1, some (.int x1)), (2, some (.int x2)), (3, some (.int x3)), (4, some (.int x4))] → ZM p l e 7 s m args below meth c D cz qm wr_nearest σ0 (some (.int r.1)) r.2 σ (F0 m 27 ls []) := by
    intro  n
    induction n with
    | zero => intro σ x1 x2 x3 x4 ls hF; exact absurd hF (fun h => by cases h)
    | succ n ih => intro σ x1 x2 x3 x4 ls hF ha hl; exact B27  _ ih _ _ _ _ _ ls hF ha hl
  have ha : ag wr_nearest σ0 σ0 := ag.rf
  unfold M_nearest at hF
  refine g_aload_n (i := 0) K hl dX4_nearest_0 rfl rfl ?_
  refine mget_59 K dX4_nearest_1 ?_
  refine g_if_eq (tgt := 16) K hF dX4_nearest_4 (by decide) (fun hF => ?_) (fun hF => ?_)
  · refine g_iconst K dX4_nearest_16 lc_m1 ?_
    exact m_iretW K hF ha dX4_nearest_17
  · refine g_iload_n (i := 1) K hl dX4_nearest_7 rfl rfl ?_
    refine g_iconst K dX4_nearest_8 lc_0 ?_
    refine g_iconst K dX4_nearest_9 lc_1 ?_
    refine m_callSP K hl hF (fun t h => w_isIn _ _ _ _ t h) cp_isIn q2008 rfl rfl rfl rfl rfl dX4_nearest_10 (fun t1 hF => ?_)
    refine g_if_ne (tgt := 18) K hF dX4_nearest_13 (by decide) (fun hF => ?_) (fun hF => ?_)
    · refine g_aload_n (i := 0) K hl dX4_nearest_18 rfl rfl ?_
      refine m_callVV K hl hF ha rfl (fun t h => w_layTold G _  t h) rfl cp_layTold q1988 rfl rfl rfl rfl rfl dX4_nearest_19 (fun σ2 hF ha => ?_)
      refine g_iconst K dX4_nearest_22 lc_0 ?_
      refine g_istore_n (i := 3) K hl dX4_nearest_23 rfl rfl rfl (fun ls hl => ?_)
      refine g_iconst K dX4_nearest_24 lc_1 ?_
      refine g_istore (i := 4) K hl dX4_nearest_25 rfl rfl (fun ls hl => ?_)
      exact L27  G _ _ _ _ _ ls hF ha (lq_sub hl rfl)
    · refine g_iconst K dX4_nearest_16 lc_m1 ?_
      exact m_iretW K hF ha dX4_nearest_17

theorem cp_chance : cpV yX4_chance cX4_chance 6 (some .long) 1 := ⟨q2335, q2336, q152, q2337, by decide +kernel⟩
set_option maxHeartbeats 4000000 in
set_option maxRecDepth 100000 in
theorem w_chance {l : Launch} {D : va_G} {cz : Nat → ClassId} {qm : Nat} (G : Nat) (σ0 : MS) (a0 : Int32) (r : Int64) (hF : M_chance G σ0 a0 = some r) : mMet l D cz qm yX4_chance cX4_chance 6 (some .long) 1 wr_chance [.ref qm, .int a0] σ0 (some (.long r)) σ0 := by
  refine m_of (by decide) rfl ?_
  intro p e s m args below meth c ls K hl
  have B5 : ∀ (k5 : Int32 → Int64 → Int32 → Option Int64) (hk5 : (∀ (x1 : Int32) (x2 : Int64) (x4 : Int32) (ls : Array Slot), k5 x1 x2 x4 = some r → lq ls 6 [(0, some (.ref qm)), (1, some (.int x1)), (2, some (.long x2)), (4, some (.int x4))] → ZM p l e 1 s m args below meth c D cz qm wr_chance σ0 (some (.long r)) σ0 σ0 (F0 m 5 ls []))) (x1 : Int32) (x2 : Int64) (x4 : Int32) (ls : Array Slot), M_chance_B5 G σ0 k5 x1 x2 x4 = some r → lq ls 6 [(0, some (.ref qm)), (1, some (.int x1)), (2, some (.long x2)), (4, some (.int x4))] → ZM p l e 1 s m args below meth c D cz qm wr_chance σ0 (some (.long r)) σ0 σ0 (F0 m 5 ls []) := by
    intro k5 hk5 x1 x2 x4 ls hF hl
    unfold M_chance_B5 at hF
    refine g_iload (i := 4) K hl dX4_chance_5 rfl ?_
    refine g_aload_n (i := 0) K hl dX4_chance_7 rfl rfl ?_
    refine mget_91 K dX4_chance_8 ?_
    refine g_icmp_ge (tgt := 69) K hF dX4_chance_11 (by decide) (fun hF => ?_) (fun hF => ?_)
    · refine g_lload_n (i := 2) K hl dX4_chance_69 rfl rfl ?_
      exact m_lretP K hF ag.rf dX4_chance_70
    · refine g_aload_n (i := 0) K hl dX4_chance_14 rfl rfl ?_
      refine g_iload (i := 4) K hl dX4_chance_15 rfl ?_
      refine g_iload_n (i := 1) K hl dX4_chance_17 rfl rfl ?_
      refine m_callVP K hl hF (fun t h => w_counts _ _ _ t h) rfl cp_counts q2318 rfl rfl rfl rfl rfl dX4_chance_18 (fun t1 hF => ?_)
      refine g_if_ne (tgt := 27) K hF dX4_chance_21 (by decide) (fun hF => ?_) (fun hF => ?_)
      · refine g_aload_n (i := 0) K hl dX4_chance_27 rfl rfl ?_
        refine mget_87 K dX4_chance_28 ?_
        refine g_iload (i := 4) K hl dX4_chance_31 rfl ?_
        refine mld_87 K hF dX4_chance_33 (fun t2 hF => ?_)
        refine m_callSP K hl hF (fun t h => w_members G _ _ t h) cp_members q2246 rfl rfl rfl rfl rfl dX4_chance_34 (fun t3 hF => ?_)
        refine g_istore (i := 5) K hl dX4_chance_37 rfl rfl (fun ls hl => ?_)
        refine g_lload_n (i := 2) K hl dX4_chance_39 rfl rfl ?_
        refine g_iload (i := 5) K hl dX4_chance_40 rfl ?_
        refine g_i2l K dX4_chance_42 ?_
        refine g_lmul K dX4_chance_43 ?_
        refine g_ldc2 K dX4_chance_44 q2338 ?_
        refine g_lcmp K dX4_chance_47 ?_
        refine g_if_le (tgt := 57) K hF dX4_chance_48 (by decide) (fun hF => ?_) (fun hF => ?_)
        · refine g_lload_n (i := 2) K hl dX4_chance_57 rfl rfl ?_
          refine g_iload (i := 5) K hl dX4_chance_58 rfl ?_
          refine g_i2l K dX4_chance_60 ?_
          refine g_lmul K dX4_chance_61 ?_
          refine g_lstore_n (i := 2) K hl dX4_chance_62 rfl rfl rfl (fun ls hl => ?_)
          refine g_iinc (i := 4) K hl dX4_chance_63 rfl lc_1 rfl rfl (fun ls hl => ?_)
          refine g_goto (tgt := 5) K dX4_chance_66 (by decide) ?_
          exact hk5 _ _ _ ls hF (lq_sub hl rfl)
        · refine g_ldc2 K dX4_chance_51 q2338 ?_
          refine g_goto (tgt := 62) K dX4_chance_54 (by decide) ?_
          refine g_lstore_n (i := 2) K hl dX4_chance_62 rfl rfl rfl (fun ls hl => ?_)
          refine g_iinc (i := 4) K hl dX4_chance_63 rfl lc_1 rfl rfl (fun ls hl => ?_)
          refine g_goto (tgt := 5) K dX4_chance_66 (by decide) ?_
          exact hk5 _ _ _ ls hF (lq_sub hl rfl)
      · refine g_goto (tgt := 63) K dX4_chance_24 (by decide) ?_
        refine g_iinc (i := 4) K hl dX4_chance_63 rfl lc_1 rfl rfl (fun ls hl => ?_)
        refine g_goto (tgt := 5) K dX4_chance_66 (by decide) ?_
        exact hk5 _ _ _ ls hF (lq_sub hl rfl)
  have L5 : ∀  (n : Nat) (x1 : Int32) (x2 : Int64) (x4 : Int32) (ls : Array Slot), M_chance_L5 G σ0  n x1 x2 x4 = some r → lq ls 6 [(0, some (.ref qm)), (1, some (.int x1)), (2, some (.long x2)), (4, some (.int x4))] → ZM p l e 1 s m args below meth c D cz qm wr_chance σ0 (some (.long r)) σ0 σ0 (F0 m 5 ls []) := by
    intro  n
    induction n with
    | zero => intro x1 x2 x4 ls hF; exact absurd hF (fun h => by cases h)
    | succ n ih => intro x1 x2 x4 ls hF hl; exact B5  _ ih _ _ _ ls hF hl
  unfold M_chance at hF
  refine g_lconst K dX4_chance_0 ll_1 ?_
  refine g_lstore_n (i := 2) K hl dX4_chance_1 rfl rfl rfl (fun ls hl => ?_)
  refine g_iconst K dX4_chance_2 lc_0 ?_
  refine g_istore (i := 4) K hl dX4_chance_3 rfl rfl (fun ls hl => ?_)
  exact L5  G _ _ _ ls hF (lq_sub hl rfl)

theorem cp_isBox : cpS yX4_isBox cX4_isBox 1 (some .boolean) 1 := ⟨q2344, q152, q2345, by decide +kernel⟩
set_option maxHeartbeats 4000000 in
set_option maxRecDepth 100000 in
theorem w_isBox {l : Launch} {D : va_G} {cz : Nat → ClassId} {qm : Nat} (σ0 : MS) (a0 : Int32) (r : Int32) (hF : M_isBox a0 = some r) : mMet l D cz qm yX4_isBox cX4_isBox 1 (some .boolean) 0 wr_isBox [.int a0] σ0 (some (.int r)) σ0 := by
  refine m_of (by decide) rfl ?_
  intro p e s m args below meth c ls K hl
  unfold M_isBox at hF
  refine g_iload_n (i := 0) K hl dX4_isBox_0 rfl rfl ?_
  refine g_if_lt (tgt := 13) K hF dX4_isBox_1 (by decide) (fun hF => ?_) (fun hF => ?_)
  · refine g_iconst K dX4_isBox_13 lc_0 ?_
    exact m_zretP K hF (Or.inl rfl) ag.rf dX4_isBox_14
  · refine g_iload_n (i := 0) K hl dX4_isBox_4 rfl rfl ?_
    refine g_iconst K dX4_isBox_5 lc_3 ?_
    refine g_icmp_ge (tgt := 13) K hF dX4_isBox_6 (by decide) (fun hF => ?_) (fun hF => ?_)
    · refine g_iconst K dX4_isBox_13 lc_0 ?_
      exact m_zretP K hF (Or.inl rfl) ag.rf dX4_isBox_14
    · refine g_iconst K dX4_isBox_9 lc_1 ?_
      refine g_goto (tgt := 14) K dX4_isBox_10 (by decide) ?_
      exact m_zretP K hF (Or.inr rfl) ag.rf dX4_isBox_14

theorem cp_image : cpV yX4_image cX4_image 3 (some .int) 1 := ⟨q2340, q2341, q152, q2342, by decide +kernel⟩
set_option maxHeartbeats 4000000 in
set_option maxRecDepth 100000 in
theorem w_image {l : Launch} {D : va_G} {cz : Nat → ClassId} {qm : Nat} (G : Nat) (σ0 : MS) (a0 : Int32) (r : (Int32 × MS)) (hF : M_image G σ0 a0 = some r) : mMet l D cz qm yX4_image cX4_image 3 (some .int) 2 wr_image [.ref qm, .int a0] σ0 (some (.int r.1)) r.2 := by
  refine m_of (by decide) rfl ?_
  intro p e s m args below meth c ls K hl
  have B22 : ∀ (k22 : MS → Int32 → Int32 → Option (Int32 × MS)) (hk22 : (∀ (σ : MS) (x1 : Int32) (x2 : Int32) (ls : Array Slot), k22 σ x1 x2 = some r → ag wr_image σ0 σ → lq ls 3 [(0, some (.ref qm)), (1, some (.int x1)), (2, some (.int x2))] → ZM p l e 2 s m args below meth c D cz qm wr_image σ0 (some (.int r.1)) r.2 σ (F0 m 22 ls []))) (σ : MS) (x1 : Int32) (x2 : Int32) (ls : Array Slot), M_image_B22 G k22 σ x1 x2 = some r → ag wr_image σ0 σ → lq ls 3 [(0, some (.ref qm)), (1, some (.int x1)), (2, some (.int x2))] → ZM p l e 2 s m args below meth c D cz qm wr_image σ0 (some (.int r.1)) r.2 σ (F0 m 22 ls []) := by
    intro k22 hk22 σ x1 x2 ls hF ha hl
    unfold M_image_B22 at hF
    refine g_iload_n (i := 2) K hl dX4_image_22 rfl rfl ?_
    refine g_bipush K dX4_image_23 lb_123 ?_
    refine g_icmp_ge (tgt := 52) K hF dX4_image_25 (by decide) (fun hF => ?_) (fun hF => ?_)
    · refine g_aload_n (i := 0) K hl dX4_image_52 rfl rfl ?_
      refine m_callVP K hl hF (fun t h => w_afloatAll G _  t h) rfl cp_afloatAll q2238 rfl rfl rfl rfl rfl dX4_image_53 (fun t1 hF => ?_)
      exact m_iretW K hF ha dX4_image_56
    · refine g_aload_n (i := 0) K hl dX4_image_28 rfl rfl ?_
      refine mget_94 K dX4_image_29 ?_
      refine g_sipush K dX4_image_32 ls_128 ?_
      refine g_iload_n (i := 1) K hl dX4_image_35 rfl rfl ?_
      refine g_imul K dX4_image_36 ?_
      refine g_iload_n (i := 2) K hl dX4_image_37 rfl rfl ?_
      refine g_iadd K dX4_image_38 ?_
      refine g_aload_n (i := 0) K hl dX4_image_39 rfl rfl ?_
      refine mget_66 K dX4_image_40 ?_
      refine g_iload_n (i := 2) K hl dX4_image_43 rfl rfl ?_
      refine mld_66 K hF dX4_image_44 (fun t2 hF => ?_)
      refine mst_94 K hF ha rfl dX4_image_45 (fun σ3 hF ha => ?_)
      refine g_iinc (i := 2) K hl dX4_image_46 rfl lc_1 rfl rfl (fun ls hl => ?_)
      refine g_goto (tgt := 22) K dX4_image_49 (by decide) ?_
      exact hk22 _ _ _ ls hF ha (lq_sub hl rfl)
  have L22 : ∀  (n : Nat) (σ : MS) (x1 : Int32) (x2 : Int32) (ls : Array Slot), M_image_L22 G  n σ x1 x2 = some r → ag wr_image σ0 σ → lq ls 3 [(0, some (.ref qm)), (1, some (.int x1)), (2, some (.int x2))] → ZM p l e 2 s m args below meth c D cz qm wr_image σ0 (some (.int r.1)) r.2 σ (F0 m 22 ls []) := by
    intro  n
    induction n with
    | zero => intro σ x1 x2 ls hF; exact absurd hF (fun h => by cases h)
    | succ n ih => intro σ x1 x2 ls hF ha hl; exact B22  _ ih _ _ _ ls hF ha hl
  have ha : ag wr_image σ0 σ0 := ag.rf
  unfold M_image at hF
  refine g_iload_n (i := 1) K hl dX4_image_0 rfl rfl ?_
  refine m_callSP K hl hF (fun t h => w_isBox _ _ t h) cp_isBox q2343 rfl rfl rfl rfl rfl dX4_image_1 (fun t1 hF => ?_)
  refine g_if_ne (tgt := 9) K hF dX4_image_4 (by decide) (fun hF => ?_) (fun hF => ?_)
  · refine g_aload_n (i := 0) K hl dX4_image_9 rfl rfl ?_
    refine mget_93 K dX4_image_10 ?_
    refine g_iload_n (i := 1) K hl dX4_image_13 rfl rfl ?_
    refine g_iconst K dX4_image_14 lc_1 ?_
    refine mst_93 K hF (Or.inr rfl) ha rfl dX4_image_15 (fun σ2 hF ha => ?_)
    refine g_aload_n (i := 0) K hl dX4_image_16 rfl rfl ?_
    refine m_callVV K hl hF ha rfl (fun t h => w_load G _  t h) rfl cp_load q2027 rfl rfl rfl rfl rfl dX4_image_17 (fun σ3 hF ha => ?_)
    refine g_iconst K dX4_image_20 lc_0 ?_
    refine g_istore_n (i := 2) K hl dX4_image_21 rfl rfl rfl (fun ls hl => ?_)
    exact L22  G _ _ _ ls hF ha (lq_sub hl rfl)
  · refine g_iconst K dX4_image_7 lc_m1 ?_
    exact m_iretW K hF ha dX4_image_8

theorem cp_back : cpV yX4_back cX4_back 3 (some .int) 1 := ⟨q2347, q2348, q152, q2349, by decide +kernel⟩
set_option maxHeartbeats 4000000 in
set_option maxRecDepth 100000 in
theorem w_back {l : Launch} {D : va_G} {cz : Nat → ClassId} {qm : Nat} (G : Nat) (σ0 : MS) (a0 : Int32) (r : (Int32 × MS)) (hF : M_back G σ0 a0 = some r) : mMet l D cz qm yX4_back cX4_back 3 (some .int) 2 wr_back [.ref qm, .int a0] σ0 (some (.int r.1)) r.2 := by
  refine m_of (by decide) rfl ?_
  intro p e s m args below meth c ls K hl
  have B20 : ∀ (k20 : MS → Int32 → Int32 → Option (Int32 × MS)) (hk20 : (∀ (σ : MS) (x1 : Int32) (x2 : Int32) (ls : Array Slot), k20 σ x1 x2 = some r → ag wr_back σ0 σ → lq ls 3 [(0, some (.ref qm)), (1, some (.int x1)), (2, some (.int x2))] → ZM p l e 2 s m args below meth c D cz qm wr_back σ0 (some (.int r.1)) r.2 σ (F0 m 20 ls []))) (σ : MS) (x1 : Int32) (x2 : Int32) (ls : Array Slot), M_back_B20 G k20 σ x1 x2 = some r → ag wr_back σ0 σ → lq ls 3 [(0, some (.ref qm)), (1, some (.int x1)), (2, some (.int x2))] → ZM p l e 2 s m args below meth c D cz qm wr_back σ0 (some (.int r.1)) r.2 σ (F0 m 20 ls []) := by
    intro k20 hk20 σ x1 x2 ls hF ha hl
    unfold M_back_B20 at hF
    refine g_iload_n (i := 2) K hl dX4_back_20 rfl rfl ?_
    refine g_bipush K dX4_back_21 lb_123 ?_
    refine g_icmp_ge (tgt := 50) K hF dX4_back_23 (by decide) (fun hF => ?_) (fun hF => ?_)
    · refine g_aload_n (i := 0) K hl dX4_back_50 rfl rfl ?_
      refine g_iconst K dX4_back_51 lc_0 ?_
      refine mput_71 K hF ha rfl dX4_back_52 (fun σ1 hF ha => ?_)
      refine g_aload_n (i := 0) K hl dX4_back_55 rfl rfl ?_
      refine g_iconst K dX4_back_56 lc_0 ?_
      refine mput_72 K hF ha rfl dX4_back_57 (fun σ2 hF ha => ?_)
      refine g_aload_n (i := 0) K hl dX4_back_60 rfl rfl ?_
      refine m_callVV K hl hF ha rfl (fun t h => w_load G _  t h) rfl cp_load q2027 rfl rfl rfl rfl rfl dX4_back_61 (fun σ3 hF ha => ?_)
      refine g_aload_n (i := 0) K hl dX4_back_64 rfl rfl ?_
      refine m_callVP K hl hF (fun t h => w_afloatAll G _  t h) rfl cp_afloatAll q2238 rfl rfl rfl rfl rfl dX4_back_65 (fun t4 hF => ?_)
      exact m_iretW K hF ha dX4_back_68
    · refine g_aload_n (i := 0) K hl dX4_back_26 rfl rfl ?_
      refine mget_67 K dX4_back_27 ?_
      refine g_iload_n (i := 2) K hl dX4_back_30 rfl rfl ?_
      refine g_aload_n (i := 0) K hl dX4_back_31 rfl rfl ?_
      refine mget_94 K dX4_back_32 ?_
      refine g_sipush K dX4_back_35 ls_128 ?_
      refine g_iload_n (i := 1) K hl dX4_back_38 rfl rfl ?_
      refine g_imul K dX4_back_39 ?_
      refine g_iload_n (i := 2) K hl dX4_back_40 rfl rfl ?_
      refine g_iadd K dX4_back_41 ?_
      refine mld_94 K hF dX4_back_42 (fun t5 hF => ?_)
      refine mst_67 K hF ha rfl dX4_back_43 (fun σ6 hF ha => ?_)
      refine g_iinc (i := 2) K hl dX4_back_44 rfl lc_1 rfl rfl (fun ls hl => ?_)
      refine g_goto (tgt := 20) K dX4_back_47 (by decide) ?_
      exact hk20 _ _ _ ls hF ha (lq_sub hl rfl)
  have L20 : ∀  (n : Nat) (σ : MS) (x1 : Int32) (x2 : Int32) (ls : Array Slot), M_back_L20 G  n σ x1 x2 = some r → ag wr_back σ0 σ → lq ls 3 [(0, some (.ref qm)), (1, some (.int x1)), (2, some (.int x2))] → ZM p l e 2 s m args below meth c D cz qm wr_back σ0 (some (.int r.1)) r.2 σ (F0 m 20 ls []) := by
    intro  n
    induction n with
    | zero => intro σ x1 x2 ls hF; exact absurd hF (fun h => by cases h)
    | succ n ih => intro σ x1 x2 ls hF ha hl; exact B20  _ ih _ _ _ ls hF ha hl
  have ha : ag wr_back σ0 σ0 := ag.rf
  unfold M_back at hF
  refine g_iload_n (i := 1) K hl dX4_back_0 rfl rfl ?_
  refine m_callSP K hl hF (fun t h => w_isBox _ _ t h) cp_isBox q2343 rfl rfl rfl rfl rfl dX4_back_1 (fun t1 hF => ?_)
  refine g_if_eq (tgt := 16) K hF dX4_back_4 (by decide) (fun hF => ?_) (fun hF => ?_)
  · refine g_iconst K dX4_back_16 lc_m1 ?_
    exact m_iretW K hF ha dX4_back_17
  · refine g_aload_n (i := 0) K hl dX4_back_7 rfl rfl ?_
    refine mget_93 K dX4_back_8 ?_
    refine g_iload_n (i := 1) K hl dX4_back_11 rfl rfl ?_
    refine mld_93 K hF dX4_back_12 (fun t2 hF => ?_)
    refine g_if_ne (tgt := 18) K hF dX4_back_13 (by decide) (fun hF => ?_) (fun hF => ?_)
    · refine g_iconst K dX4_back_18 lc_0 ?_
      refine g_istore_n (i := 2) K hl dX4_back_19 rfl rfl rfl (fun ls hl => ?_)
      exact L20  G _ _ _ ls hF ha (lq_sub hl rfl)
    · refine g_iconst K dX4_back_16 lc_m1 ?_
      exact m_iretW K hF ha dX4_back_17

theorem cp_about : cpV yX4_about cX4_about 2 (some .int) 1 := ⟨q2351, q2352, q152, q2353, by decide +kernel⟩
set_option maxHeartbeats 4000000 in
set_option maxRecDepth 100000 in
theorem w_about {l : Launch} {D : va_G} {cz : Nat → ClassId} {qm : Nat} (G : Nat) (σ0 : MS) (a0 : Int32) (r : (Int32 × MS)) (hF : M_about G σ0 a0 = some r) : mMet l D cz qm yX4_about cX4_about 2 (some .int) 2 wr_about [.ref qm, .int a0] σ0 (some (.int r.1)) r.2 := by
  refine m_of (by decide) rfl ?_
  intro p e s m args below meth c ls K hl
  have ha : ag wr_about σ0 σ0 := ag.rf
  unfold M_about at hF
  refine g_aload_n (i := 0) K hl dX4_about_0 rfl rfl ?_
  refine m_callVV K hl hF ha rfl (fun t h => w_load G _  t h) rfl cp_load q2027 rfl rfl rfl rfl rfl dX4_about_1 (fun σ1 hF ha => ?_)
  refine g_iload_n (i := 1) K hl dX4_about_4 rfl rfl ?_
  refine g_tsw (tgt := 149) (lo32 := 0) (hi32 := 13) K hF dX4_about_5 rfl rfl (by decide) (fun hF => ?_) (fun hF => ?_)
  · refine g_iconst K dX4_about_149 lc_m1 ?_
    exact m_iretW K hF ha dX4_about_150
  · obtain ⟨hlo, hhi, hF⟩ := hF
    rcases sw_eq hF with ⟨hv, hF⟩ | ⟨hv0, hF⟩
    · refine g_tin (tgt := 76) K dX4_about_5 hv rfl rfl (by decide) ?_
      refine g_aload_n (i := 0) K hl dX4_about_76 rfl rfl ?_
      refine mget_56 K dX4_about_77 ?_
      exact m_iretW K hF ha dX4_about_80
    rcases sw_eq hF with ⟨hv, hF⟩ | ⟨hv1, hF⟩
    · refine g_tin (tgt := 81) K dX4_about_5 hv rfl rfl (by decide) ?_
      refine g_aload_n (i := 0) K hl dX4_about_81 rfl rfl ?_
      refine mget_57 K dX4_about_82 ?_
      exact m_iretW K hF ha dX4_about_85
    rcases sw_eq hF with ⟨hv, hF⟩ | ⟨hv2, hF⟩
    · refine g_tin (tgt := 86) K dX4_about_5 hv rfl rfl (by decide) ?_
      refine g_aload_n (i := 0) K hl dX4_about_86 rfl rfl ?_
      refine mget_60 K dX4_about_87 ?_
      exact m_iretW K hF ha dX4_about_90
    rcases sw_eq hF with ⟨hv, hF⟩ | ⟨hv3, hF⟩
    · refine g_tin (tgt := 91) K dX4_about_5 hv rfl rfl (by decide) ?_
      refine g_aload_n (i := 0) K hl dX4_about_91 rfl rfl ?_
      refine m_callVP K hl hF (fun t h => w_afloatAll G _  t h) rfl cp_afloatAll q2238 rfl rfl rfl rfl rfl dX4_about_92 (fun t2 hF => ?_)
      exact m_iretW K hF ha dX4_about_95
    rcases sw_eq hF with ⟨hv, hF⟩ | ⟨hv4, hF⟩
    · refine g_tin (tgt := 96) K dX4_about_5 hv rfl rfl (by decide) ?_
      refine g_aload_n (i := 0) K hl dX4_about_96 rfl rfl ?_
      refine mget_61 K dX4_about_97 ?_
      exact m_iretW K hF ha dX4_about_100
    rcases sw_eq hF with ⟨hv, hF⟩ | ⟨hv5, hF⟩
    · refine g_tin (tgt := 101) K dX4_about_5 hv rfl rfl (by decide) ?_
      refine g_aload_n (i := 0) K hl dX4_about_101 rfl rfl ?_
      refine mget_59 K dX4_about_102 ?_
      exact m_iretW K hF ha dX4_about_105
    rcases sw_eq hF with ⟨hv, hF⟩ | ⟨hv6, hF⟩
    · refine g_tin (tgt := 106) K dX4_about_5 hv rfl rfl (by decide) ?_
      refine g_aload_n (i := 0) K hl dX4_about_106 rfl rfl ?_
      refine mget_67 K dX4_about_107 ?_
      refine g_bipush K dX4_about_110 lb_62 ?_
      refine mld_67 K hF dX4_about_112 (fun t3 hF => ?_)
      exact m_iretW K hF ha dX4_about_113
    rcases sw_eq hF with ⟨hv, hF⟩ | ⟨hv7, hF⟩
    · refine g_tin (tgt := 114) K dX4_about_5 hv rfl rfl (by decide) ?_
      refine g_aload_n (i := 0) K hl dX4_about_114 rfl rfl ?_
      refine mget_71 K dX4_about_115 ?_
      exact m_iretW K hF ha dX4_about_118
    rcases sw_eq hF with ⟨hv, hF⟩ | ⟨hv8, hF⟩
    · refine g_tin (tgt := 119) K dX4_about_5 hv rfl rfl (by decide) ?_
      refine g_aload_n (i := 0) K hl dX4_about_119 rfl rfl ?_
      refine mget_72 K dX4_about_120 ?_
      exact m_iretW K hF ha dX4_about_123
    rcases sw_eq hF with ⟨hv, hF⟩ | ⟨hv9, hF⟩
    · refine g_tin (tgt := 124) K dX4_about_5 hv rfl rfl (by decide) ?_
      refine g_aload_n (i := 0) K hl dX4_about_124 rfl rfl ?_
      refine mget_91 K dX4_about_125 ?_
      exact m_iretW K hF ha dX4_about_128
    rcases sw_eq hF with ⟨hv, hF⟩ | ⟨hv10, hF⟩
    · refine g_tin (tgt := 129) K dX4_about_5 hv rfl rfl (by decide) ?_
      refine g_aload_n (i := 0) K hl dX4_about_129 rfl rfl ?_
      refine mget_92 K dX4_about_130 ?_
      exact m_iretW K hF ha dX4_about_133
    rcases sw_eq hF with ⟨hv, hF⟩ | ⟨hv11, hF⟩
    · refine g_tin (tgt := 134) K dX4_about_5 hv rfl rfl (by decide) ?_
      refine g_aload_n (i := 0) K hl dX4_about_134 rfl rfl ?_
      refine mget_1 K dX4_about_135 ?_
      exact m_iretW K hF ha dX4_about_138
    rcases sw_eq hF with ⟨hv, hF⟩ | ⟨hv12, hF⟩
    · refine g_tin (tgt := 139) K dX4_about_5 hv rfl rfl (by decide) ?_
      refine g_aload_n (i := 0) K hl dX4_about_139 rfl rfl ?_
      refine mget_21 K dX4_about_140 ?_
      exact m_iretW K hF ha dX4_about_143
    have hv := sw_last14 hlo hhi hv0 hv1 hv2 hv3 hv4 hv5 hv6 hv7 hv8 hv9 hv10 hv11 hv12
    refine g_tin (tgt := 144) K dX4_about_5 hv rfl rfl (by decide) ?_
    refine g_aload_n (i := 0) K hl dX4_about_144 rfl rfl ?_
    refine mget_85 K dX4_about_145 ?_
    exact m_iretW K hF ha dX4_about_148
