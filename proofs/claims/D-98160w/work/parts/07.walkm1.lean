/-! walks of the model: printed by genm.py -/
theorem cp_newName : cpV yX4_newName cX4_newName 3 none 2 := ⟨q1939, qs85, q152, q1940, by decide +kernel⟩
set_option maxHeartbeats 4000000 in
set_option maxRecDepth 100000 in
theorem w_newName {l : Launch} {D : va_G} {cz : Nat → ClassId} {qm : Nat} (G : Nat) (σ0 : MS) (a0 : Int32) (a1 : Int32) (r : MS) (hF : M_newName G σ0 a0 a1 = some r) : mMet l D cz qm yX4_newName cX4_newName 3 none 2 wr_newName [.ref qm, .int a0, .int a1] σ0 none r := by
  refine m_of (by decide) rfl ?_
  intro p e s m args below meth c ls K hl
  have L33 : ∀  (σ : MS) (x1 : Int32) (x2 : Int32) (ls : Array Slot), M_newName_L33 G  σ x1 x2 = some r → ag wr_newName σ0 σ → lq ls 3 [(0, some (.ref qm)), (1, some (.int x1)), (2, some (.int x2))] → ZM p l e 2 s m args below meth c D cz qm wr_newName σ0 none r σ (F0 m 33 ls []) := by
    intro  σ x1 x2 ls hF ha hl
    unfold M_newName_L33 at hF
    refine g_aload_n (i := 0) K hl dX4_newName_33 rfl rfl ?_
    refine mget_2 K dX4_newName_34 ?_
    refine g_if_le (tgt := 41) K hF dX4_newName_37 (by decide) (fun hF => ?_) (fun hF => ?_)
    · refine g_aload_n (i := 0) K hl dX4_newName_41 rfl rfl ?_
      refine mget_24 K dX4_newName_42 ?_
      refine g_iload_n (i := 1) K hl dX4_newName_45 rfl rfl ?_
      refine g_iload_n (i := 2) K hl dX4_newName_46 rfl rfl ?_
      refine g_iadd K dX4_newName_47 ?_
      refine g_aload_n (i := 0) K hl dX4_newName_48 rfl rfl ?_
      refine mget_9 K dX4_newName_49 ?_
      refine mst_24 K hF ha rfl dX4_newName_52 (fun σ1 hF ha => ?_)
      refine g_aload_n (i := 0) K hl dX4_newName_53 rfl rfl ?_
      refine m_callVV K hl hF ha rfl (fun t h => w_token G _  t h) rfl cp_token q1814 rfl rfl rfl rfl rfl dX4_newName_54 (fun σ2 hF ha => ?_)
      exact m_vretV K hF ha dX4_newName_57
    · exact m_vretV K hF ha dX4_newName_40
  have ha : ag wr_newName σ0 σ0 := ag.rf
  unfold M_newName at hF
  refine g_aload_n (i := 0) K hl dX4_newName_0 rfl rfl ?_
  refine m_callVV K hl hF ha rfl (fun t h => w_token G _  t h) rfl cp_token q1814 rfl rfl rfl rfl rfl dX4_newName_1 (fun σ1 hF ha => ?_)
  refine g_aload_n (i := 0) K hl dX4_newName_4 rfl rfl ?_
  refine m_callVP K hl hF (fun t h => w_isName _  t h) rfl cp_isName q1941 rfl rfl rfl rfl rfl dX4_newName_5 (fun t2 hF => ?_)
  refine g_if_ne (tgt := 19) K hF dX4_newName_8 (by decide) (fun hF => ?_) (fun hF => ?_)
  · refine g_aload_n (i := 0) K hl dX4_newName_19 rfl rfl ?_
    refine g_iload_n (i := 1) K hl dX4_newName_20 rfl rfl ?_
    refine g_iload_n (i := 2) K hl dX4_newName_21 rfl rfl ?_
    refine m_callVP K hl hF (fun t h => w_find G _ _ _ t h) rfl cp_find q1956 rfl rfl rfl rfl rfl dX4_newName_22 (fun t3 hF => ?_)
    refine g_if_lt (tgt := 33) K hF dX4_newName_25 (by decide) (fun hF => ?_) (fun hF => ?_)
    · exact L33  _ _ _ ls hF ha (lq_sub hl rfl)
    · refine g_aload_n (i := 0) K hl dX4_newName_28 rfl rfl ?_
      refine g_iconst K dX4_newName_29 lc_3 ?_
      refine m_callVV K hl hF ha rfl (fun t h => w_wrong _ _ t h) rfl cp_wrong q1852 rfl rfl rfl rfl rfl dX4_newName_30 (fun σ4 hF ha => ?_)
      exact L33  _ _ _ ls hF ha (lq_sub hl rfl)
  · refine g_aload_n (i := 0) K hl dX4_newName_11 rfl rfl ?_
    refine g_iconst K dX4_newName_12 lc_2 ?_
    refine m_callVV K hl hF ha rfl (fun t h => w_wrong _ _ t h) rfl cp_wrong q1852 rfl rfl rfl rfl rfl dX4_newName_13 (fun σ5 hF ha => ?_)
    refine g_goto (tgt := 33) K dX4_newName_16 (by decide) ?_
    exact L33  _ _ _ ls hF ha (lq_sub hl rfl)

theorem cp_readTub : cpV yX4_readTub cX4_readTub 1 none 0 := ⟨q1842, qs66, q152, q1843, by decide +kernel⟩
set_option maxHeartbeats 4000000 in
set_option maxRecDepth 100000 in
theorem w_readTub {l : Launch} {D : va_G} {cz : Nat → ClassId} {qm : Nat} (G : Nat) (σ0 : MS)  (r : MS) (hF : M_readTub G σ0 = some r) : mMet l D cz qm yX4_readTub cX4_readTub 1 none 4 wr_readTub [.ref qm] σ0 none r := by
  refine m_of (by decide) rfl ?_
  intro p e s m args below meth c ls K hl
  have ha : ag wr_readTub σ0 σ0 := ag.rf
  unfold M_readTub at hF
  refine g_aload_n (i := 0) K hl dX4_readTub_0 rfl rfl ?_
  refine g_aload_n (i := 0) K hl dX4_readTub_1 rfl rfl ?_
  refine g_ldc2 K dX4_readTub_2 q1835 ?_
  refine g_iconst K dX4_readTub_5 lc_1 ?_
  refine g_bipush K dX4_readTub_6 lb_6 ?_
  refine m_callVW K hl hF ha rfl (fun t h => w_told G _ _ _ _ t h) rfl cp_told q1844 rfl rfl rfl rfl rfl dX4_readTub_8 (fun t2 σ1 hF ha => ?_)
  refine mput_49 K hF ha rfl dX4_readTub_11 (fun σ3 hF ha => ?_)
  refine g_aload_n (i := 0) K hl dX4_readTub_14 rfl rfl ?_
  refine g_aload_n (i := 0) K hl dX4_readTub_15 rfl rfl ?_
  refine g_ldc2 K dX4_readTub_16 q1860 ?_
  refine g_iconst K dX4_readTub_19 lc_1 ?_
  refine g_bipush K dX4_readTub_20 lb_6 ?_
  refine m_callVW K hl hF ha rfl (fun t h => w_told G _ _ _ _ t h) rfl cp_told q1844 rfl rfl rfl rfl rfl dX4_readTub_22 (fun t5 σ4 hF ha => ?_)
  refine mput_50 K hF ha rfl dX4_readTub_25 (fun σ6 hF ha => ?_)
  exact m_vretV K hF ha dX4_readTub_28

theorem cp_readOdds : cpV yX4_readOdds cX4_readOdds 2 none 0 := ⟨q1864, qs71, q152, q1865, by decide +kernel⟩
set_option maxHeartbeats 4000000 in
set_option maxRecDepth 100000 in
theorem w_readOdds {l : Launch} {D : va_G} {cz : Nat → ClassId} {qm : Nat} (G : Nat) (σ0 : MS)  (r : MS) (hF : M_readOdds G σ0 = some r) : mMet l D cz qm yX4_readOdds cX4_readOdds 2 none 5 wr_readOdds [.ref qm] σ0 none r := by
  refine m_of (by decide) rfl ?_
  intro p e s m args below meth c ls K hl
  have L97 : ∀  (σ : MS) (x1 : Int32) (ls : Array Slot), M_readOdds_L97 G  σ x1 = some r → ag wr_readOdds σ0 σ → lq ls 2 [(0, some (.ref qm)), (1, some (.int x1))] → ZM p l e 5 s m args below meth c D cz qm wr_readOdds σ0 none r σ (F0 m 97 ls []) := by
    intro  σ x1 ls hF ha hl
    unfold M_readOdds_L97 at hF
    refine g_aload_n (i := 0) K hl dX4_readOdds_97 rfl rfl ?_
    refine mget_2 K dX4_readOdds_98 ?_
    refine g_if_le (tgt := 105) K hF dX4_readOdds_101 (by decide) (fun hF => ?_) (fun hF => ?_)
    · refine g_aload_n (i := 0) K hl dX4_readOdds_105 rfl rfl ?_
      refine g_dup K dX4_readOdds_106 rfl ?_
      refine mget_51 K dX4_readOdds_107 ?_
      refine g_iconst K dX4_readOdds_110 lc_1 ?_
      refine g_iload_n (i := 1) K hl dX4_readOdds_111 rfl rfl ?_
      refine g_ishl K dX4_readOdds_112 ?_
      refine g_ior K dX4_readOdds_113 ?_
      refine mput_51 K hF ha rfl dX4_readOdds_114 (fun σ1 hF ha => ?_)
      refine g_aload_n (i := 0) K hl dX4_readOdds_117 rfl rfl ?_
      refine m_callVV K hl hF ha rfl (fun t h => w_token G _  t h) rfl cp_token q1814 rfl rfl rfl rfl rfl dX4_readOdds_118 (fun σ2 hF ha => ?_)
      refine g_aload_n (i := 0) K hl dX4_readOdds_121 rfl rfl ?_
      refine g_iload_n (i := 1) K hl dX4_readOdds_122 rfl rfl ?_
      refine m_callVV K hl hF ha rfl (fun t h => w_formula G _ _ t h) rfl cp_formula q1871 rfl rfl rfl rfl rfl dX4_readOdds_123 (fun σ3 hF ha => ?_)
      exact m_vretV K hF ha dX4_readOdds_126
    · exact m_vretV K hF ha dX4_readOdds_104
  have L92 : ∀  (σ : MS) (x1 : Int32) (ls : Array Slot), M_readOdds_L92 G  σ x1 = some r → ag wr_readOdds σ0 σ → lq ls 2 [(0, some (.ref qm)), (1, some (.int x1))] → ZM p l e 5 s m args below meth c D cz qm wr_readOdds σ0 none r σ (F0 m 92 ls []) := by
    intro  σ x1 ls hF ha hl
    unfold M_readOdds_L92 at hF
    refine g_aload_n (i := 0) K hl dX4_readOdds_92 rfl rfl ?_
    refine g_iconst K dX4_readOdds_93 lc_2 ?_
    refine m_callVV K hl hF ha rfl (fun t h => w_wrong _ _ t h) rfl cp_wrong q1852 rfl rfl rfl rfl rfl dX4_readOdds_94 (fun σ1 hF ha => ?_)
    exact L97  _ _ ls hF ha (lq_sub hl rfl)
  have L75 : ∀  (σ : MS) (s0 : Int32) (ls : Array Slot), M_readOdds_L75 G  σ s0 = some r → ag wr_readOdds σ0 σ → lq ls 2 [(0, some (.ref qm))] → ZM p l e 5 s m args below meth c D cz qm wr_readOdds σ0 none r σ (F0 m 75 ls [.int s0]) := by
    intro  σ s0 ls hF ha hl
    unfold M_readOdds_L75 at hF
    refine g_istore_n (i := 1) K hl dX4_readOdds_75 rfl rfl rfl (fun ls hl => ?_)
    refine g_iload_n (i := 1) K hl dX4_readOdds_76 rfl rfl ?_
    refine g_if_lt (tgt := 92) K hF dX4_readOdds_77 (by decide) (fun hF => ?_) (fun hF => ?_)
    · exact L92  _ _ ls hF ha (lq_sub hl rfl)
    · refine g_aload_n (i := 0) K hl dX4_readOdds_80 rfl rfl ?_
      refine mget_51 K dX4_readOdds_81 ?_
      refine g_iload_n (i := 1) K hl dX4_readOdds_84 rfl rfl ?_
      refine g_ishr K dX4_readOdds_85 ?_
      refine g_iconst K dX4_readOdds_86 lc_1 ?_
      refine g_iand K dX4_readOdds_87 ?_
      refine g_iconst K dX4_readOdds_88 lc_1 ?_
      refine g_icmp_ne (tgt := 97) K hF dX4_readOdds_89 (by decide) (fun hF => ?_) (fun hF => ?_)
      · exact L97  _ _ ls hF ha (lq_sub hl rfl)
      · exact L92  _ _ ls hF ha (lq_sub hl rfl)
  have ha : ag wr_readOdds σ0 σ0 := ag.rf
  unfold M_readOdds at hF
  refine g_aload_n (i := 0) K hl dX4_readOdds_0 rfl rfl ?_
  refine m_callVV K hl hF ha rfl (fun t h => w_token G _  t h) rfl cp_token q1814 rfl rfl rfl rfl rfl dX4_readOdds_1 (fun σ1 hF ha => ?_)
  refine g_aload_n (i := 0) K hl dX4_readOdds_4 rfl rfl ?_
  refine g_ldc2 K dX4_readOdds_5 q1866 ?_
  refine m_callVP K hl hF (fun t h => w_isWord _ _ t h) rfl cp_isWord q1836 rfl rfl rfl rfl rfl dX4_readOdds_8 (fun t2 hF => ?_)
  refine g_if_eq (tgt := 18) K hF dX4_readOdds_11 (by decide) (fun hF => ?_) (fun hF => ?_)
  · refine g_aload_n (i := 0) K hl dX4_readOdds_18 rfl rfl ?_
    refine g_ldc2 K dX4_readOdds_19 q1867 ?_
    refine m_callVP K hl hF (fun t h => w_isWord _ _ t h) rfl cp_isWord q1836 rfl rfl rfl rfl rfl dX4_readOdds_22 (fun t3 hF => ?_)
    refine g_if_eq (tgt := 32) K hF dX4_readOdds_25 (by decide) (fun hF => ?_) (fun hF => ?_)
    · refine g_aload_n (i := 0) K hl dX4_readOdds_32 rfl rfl ?_
      refine g_ldc2 K dX4_readOdds_33 q1868 ?_
      refine m_callVP K hl hF (fun t h => w_isWord _ _ t h) rfl cp_isWord q1836 rfl rfl rfl rfl rfl dX4_readOdds_36 (fun t4 hF => ?_)
      refine g_if_eq (tgt := 46) K hF dX4_readOdds_39 (by decide) (fun hF => ?_) (fun hF => ?_)
      · refine g_aload_n (i := 0) K hl dX4_readOdds_46 rfl rfl ?_
        refine g_ldc2 K dX4_readOdds_47 q1869 ?_
        refine m_callVP K hl hF (fun t h => w_isWord _ _ t h) rfl cp_isWord q1836 rfl rfl rfl rfl rfl dX4_readOdds_50 (fun t5 hF => ?_)
        refine g_if_eq (tgt := 60) K hF dX4_readOdds_53 (by decide) (fun hF => ?_) (fun hF => ?_)
        · refine g_aload_n (i := 0) K hl dX4_readOdds_60 rfl rfl ?_
          refine g_ldc2 K dX4_readOdds_61 q1870 ?_
          refine m_callVP K hl hF (fun t h => w_isWord _ _ t h) rfl cp_isWord q1836 rfl rfl rfl rfl rfl dX4_readOdds_64 (fun t6 hF => ?_)
          refine g_if_eq (tgt := 74) K hF dX4_readOdds_67 (by decide) (fun hF => ?_) (fun hF => ?_)
          · refine g_iconst K dX4_readOdds_74 lc_m1 ?_
            exact L75  _ _ ls hF ha (lq_sub hl rfl)
          · refine g_iconst K dX4_readOdds_70 lc_4 ?_
            refine g_goto (tgt := 75) K dX4_readOdds_71 (by decide) ?_
            exact L75  _ _ ls hF ha (lq_sub hl rfl)
        · refine g_iconst K dX4_readOdds_56 lc_3 ?_
          refine g_goto (tgt := 75) K dX4_readOdds_57 (by decide) ?_
          exact L75  _ _ ls hF ha (lq_sub hl rfl)
      · refine g_iconst K dX4_readOdds_42 lc_2 ?_
        refine g_goto (tgt := 75) K dX4_readOdds_43 (by decide) ?_
        exact L75  _ _ ls hF ha (lq_sub hl rfl)
    · refine g_iconst K dX4_readOdds_28 lc_1 ?_
      refine g_goto (tgt := 75) K dX4_readOdds_29 (by decide) ?_
      exact L75  _ _ ls hF ha (lq_sub hl rfl)
  · refine g_iconst K dX4_readOdds_14 lc_0 ?_
    refine g_goto (tgt := 75) K dX4_readOdds_15 (by decide) ?_
    exact L75  _ _ ls hF ha (lq_sub hl rfl)

theorem cp_readRule : cpV yX4_readRule cX4_readRule 1 none 0 := ⟨q1935, qs84, q152, q1936, by decide +kernel⟩
set_option maxHeartbeats 4000000 in
set_option maxRecDepth 100000 in
theorem w_readRule {l : Launch} {D : va_G} {cz : Nat → ClassId} {qm : Nat} (G : Nat) (σ0 : MS)  (r : MS) (hF : M_readRule G σ0 = some r) : mMet l D cz qm yX4_readRule cX4_readRule 1 none 5 wr_readRule [.ref qm] σ0 none r := by
  refine m_of (by decide) rfl ?_
  intro p e s m args below meth c ls K hl
  have ha : ag wr_readRule σ0 σ0 := ag.rf
  unfold M_readRule at hF
  refine g_aload_n (i := 0) K hl dX4_readRule_0 rfl rfl ?_
  refine g_iconst K dX4_readRule_1 lc_0 ?_
  refine g_aload_n (i := 0) K hl dX4_readRule_2 rfl rfl ?_
  refine mget_52 K dX4_readRule_3 ?_
  refine m_callVV K hl hF ha rfl (fun t h => w_newName G _ _ _ t h) rfl cp_newName q1937 rfl rfl rfl rfl rfl dX4_readRule_6 (fun σ1 hF ha => ?_)
  refine g_aload_n (i := 0) K hl dX4_readRule_9 rfl rfl ?_
  refine mget_2 K dX4_readRule_10 ?_
  refine g_if_le (tgt := 17) K hF dX4_readRule_13 (by decide) (fun hF => ?_) (fun hF => ?_)
  · refine g_aload_n (i := 0) K hl dX4_readRule_17 rfl rfl ?_
    refine g_iconst K dX4_readRule_18 lc_5 ?_
    refine g_aload_n (i := 0) K hl dX4_readRule_19 rfl rfl ?_
    refine mget_52 K dX4_readRule_20 ?_
    refine g_iadd K dX4_readRule_23 ?_
    refine m_callVV K hl hF ha rfl (fun t h => w_formula G _ _ t h) rfl cp_formula q1871 rfl rfl rfl rfl rfl dX4_readRule_24 (fun σ2 hF ha => ?_)
    refine g_aload_n (i := 0) K hl dX4_readRule_27 rfl rfl ?_
    refine mget_2 K dX4_readRule_28 ?_
    refine g_if_ne (tgt := 44) K hF dX4_readRule_31 (by decide) (fun hF => ?_) (fun hF => ?_)
    · exact m_vretV K hF ha dX4_readRule_44
    · refine g_aload_n (i := 0) K hl dX4_readRule_34 rfl rfl ?_
      refine g_dup K dX4_readRule_35 rfl ?_
      refine mget_52 K dX4_readRule_36 ?_
      refine g_iconst K dX4_readRule_39 lc_1 ?_
      refine g_iadd K dX4_readRule_40 ?_
      refine mput_52 K hF ha rfl dX4_readRule_41 (fun σ3 hF ha => ?_)
      exact m_vretV K hF ha dX4_readRule_44
  · exact m_vretV K hF ha dX4_readRule_16

theorem cp_readApple : cpV yX4_readApple cX4_readApple 3 none 0 := ⟨q1962, qs89, q152, q1963, by decide +kernel⟩
set_option maxHeartbeats 4000000 in
set_option maxRecDepth 100000 in
theorem w_readApple {l : Launch} {D : va_G} {cz : Nat → ClassId} {qm : Nat} (G : Nat) (σ0 : MS)  (r : MS) (hF : M_readApple G σ0 = some r) : mMet l D cz qm yX4_readApple cX4_readApple 3 none 4 wr_readApple [.ref qm] σ0 none r := by
  refine m_of (by decide) rfl ?_
  intro p e s m args below meth c ls K hl
  have L210 : ∀  (σ : MS) (s1 : Int32) (s2 : Int32) (ls : Array Slot), M_readApple_L210 G  σ s1 s2 = some r → ag wr_readApple σ0 σ → lq ls 3 [(0, some (.ref qm))] → ZM p l e 4 s m args below meth c D cz qm wr_readApple σ0 none r σ (F0 m 210 ls [.int s2, .int s1, .ref (mad qm 29)]) := by
    intro  σ s1 s2 ls hF ha hl
    unfold M_readApple_L210 at hF
    refine mst_29 K hF ha rfl dX4_readApple_210 (fun σ1 hF ha => ?_)
    refine g_aload_n (i := 0) K hl dX4_readApple_211 rfl rfl ?_
    refine mget_2 K dX4_readApple_212 ?_
    refine g_if_ne (tgt := 228) K hF dX4_readApple_215 (by decide) (fun hF => ?_) (fun hF => ?_)
    · exact m_vretV K hF ha dX4_readApple_228
    · refine g_aload_n (i := 0) K hl dX4_readApple_218 rfl rfl ?_
      refine g_dup K dX4_readApple_219 rfl ?_
      refine mget_53 K dX4_readApple_220 ?_
      refine g_iconst K dX4_readApple_223 lc_1 ?_
      refine g_iadd K dX4_readApple_224 ?_
      refine mput_53 K hF ha rfl dX4_readApple_225 (fun σ2 hF ha => ?_)
      exact m_vretV K hF ha dX4_readApple_228
  have B64 : ∀ (k64 : MS → Int32 → Int32 → Option MS) (hk64 : (∀ (σ : MS) (x1 : Int32) (x2 : Int32) (ls : Array Slot), k64 σ x1 x2 = some r → ag wr_readApple σ0 σ → lq ls 3 [(0, some (.ref qm)), (1, some (.int x1)), (2, some (.int x2))] → ZM p l e 4 s m args below meth c D cz qm wr_readApple σ0 none r σ (F0 m 64 ls []))) (σ : MS) (x1 : Int32) (x2 : Int32) (ls : Array Slot), M_readApple_B64 G k64 σ x1 x2 = some r → ag wr_readApple σ0 σ → lq ls 3 [(0, some (.ref qm)), (1, some (.int x1)), (2, some (.int x2))] → ZM p l e 4 s m args below meth c D cz qm wr_readApple σ0 none r σ (F0 m 64 ls []) := by
    intro k64 hk64 σ x1 x2 ls hF ha hl
    unfold M_readApple_B64 at hF
    refine g_iload_n (i := 2) K hl dX4_readApple_64 rfl rfl ?_
    refine g_aload_n (i := 0) K hl dX4_readApple_65 rfl rfl ?_
    refine mget_53 K dX4_readApple_66 ?_
    refine g_icmp_ge (tgt := 127) K hF dX4_readApple_69 (by decide) (fun hF => ?_) (fun hF => ?_)
    · refine g_aload_n (i := 0) K hl dX4_readApple_127 rfl rfl ?_
      refine mget_25 K dX4_readApple_128 ?_
      refine g_aload_n (i := 0) K hl dX4_readApple_131 rfl rfl ?_
      refine mget_53 K dX4_readApple_132 ?_
      refine g_aload_n (i := 0) K hl dX4_readApple_135 rfl rfl ?_
      refine g_ldc2 K dX4_readApple_136 q1903 ?_
      refine g_iconst K dX4_readApple_139 lc_1 ?_
      refine g_bipush K dX4_readApple_140 lb_99 ?_
      refine m_callVW K hl hF ha rfl (fun t h => w_told G _ _ _ _ t h) rfl cp_told q1844 rfl rfl rfl rfl rfl dX4_readApple_142 (fun t2 σ1 hF ha => ?_)
      refine mst_25 K hF ha rfl dX4_readApple_145 (fun σ3 hF ha => ?_)
      refine g_aload_n (i := 0) K hl dX4_readApple_146 rfl rfl ?_
      refine mget_26 K dX4_readApple_147 ?_
      refine g_aload_n (i := 0) K hl dX4_readApple_150 rfl rfl ?_
      refine mget_53 K dX4_readApple_151 ?_
      refine g_aload_n (i := 0) K hl dX4_readApple_154 rfl rfl ?_
      refine g_ldc2 K dX4_readApple_155 q1904 ?_
      refine g_iconst K dX4_readApple_158 lc_0 ?_
      refine g_bipush K dX4_readApple_159 lb_9 ?_
      refine m_callVW K hl hF ha rfl (fun t h => w_told G _ _ _ _ t h) rfl cp_told q1844 rfl rfl rfl rfl rfl dX4_readApple_161 (fun t5 σ4 hF ha => ?_)
      refine mst_26 K hF ha rfl dX4_readApple_164 (fun σ6 hF ha => ?_)
      refine g_aload_n (i := 0) K hl dX4_readApple_165 rfl rfl ?_
      refine mget_36 K dX4_readApple_166 ?_
      refine g_aload_n (i := 0) K hl dX4_readApple_169 rfl rfl ?_
      refine mget_53 K dX4_readApple_170 ?_
      refine g_aload_n (i := 0) K hl dX4_readApple_173 rfl rfl ?_
      refine g_ldc2 K dX4_readApple_174 q1867 ?_
      refine m_callVW K hl hF ha rfl (fun t h => w_takes G _ _ t h) rfl cp_takes q1968 rfl rfl rfl rfl rfl dX4_readApple_177 (fun t8 σ7 hF ha => ?_)
      obtain ⟨hz, hF⟩ := bzI_i hF
      refine mst_36 K hF hz ha rfl dX4_readApple_180 (fun σ9 hF ha => ?_)
      refine g_aload_n (i := 0) K hl dX4_readApple_181 rfl rfl ?_
      refine mget_29 K dX4_readApple_182 ?_
      refine g_aload_n (i := 0) K hl dX4_readApple_185 rfl rfl ?_
      refine mget_53 K dX4_readApple_186 ?_
      refine g_aload_n (i := 0) K hl dX4_readApple_189 rfl rfl ?_
      refine g_ldc2 K dX4_readApple_190 q1951 ?_
      refine m_callVW K hl hF ha rfl (fun t h => w_takes G _ _ t h) rfl cp_takes q1968 rfl rfl rfl rfl rfl dX4_readApple_193 (fun t11 σ10 hF ha => ?_)
      refine g_if_eq (tgt := 209) K hF dX4_readApple_196 (by decide) (fun hF => ?_) (fun hF => ?_)
      · refine g_iconst K dX4_readApple_209 lc_1 ?_
        exact L210  _ _ _ ls hF ha (lq_sub hl rfl)
      · refine g_aload_n (i := 0) K hl dX4_readApple_199 rfl rfl ?_
        refine g_iconst K dX4_readApple_200 lc_0 ?_
        refine g_bipush K dX4_readApple_201 lb_99 ?_
        refine m_callVW K hl hF ha rfl (fun t h => w_toldNumber G _ _ _ t h) rfl cp_toldNumber q1856 rfl rfl rfl rfl rfl dX4_readApple_203 (fun t13 σ12 hF ha => ?_)
        refine g_goto (tgt := 210) K dX4_readApple_206 (by decide) ?_
        exact L210  _ _ _ ls hF ha (lq_sub hl rfl)
    · refine g_aload_n (i := 0) K hl dX4_readApple_72 rfl rfl ?_
      refine mget_2 K dX4_readApple_73 ?_
      refine g_if_ne (tgt := 121) K hF dX4_readApple_76 (by decide) (fun hF => ?_) (fun hF => ?_)
      · refine g_iinc (i := 2) K hl dX4_readApple_121 rfl lc_1 rfl rfl (fun ls hl => ?_)
        refine g_goto (tgt := 64) K dX4_readApple_124 (by decide) ?_
        exact hk64 _ _ _ ls hF ha (lq_sub hl rfl)
      · refine g_aload_n (i := 0) K hl dX4_readApple_79 rfl rfl ?_
        refine mget_27 K dX4_readApple_80 ?_
        refine g_iload_n (i := 2) K hl dX4_readApple_83 rfl rfl ?_
        refine mld_27 K hF dX4_readApple_84 (fun t14 hF => ?_)
        refine g_aload_n (i := 0) K hl dX4_readApple_85 rfl rfl ?_
        refine mget_27 K dX4_readApple_86 ?_
        refine g_aload_n (i := 0) K hl dX4_readApple_89 rfl rfl ?_
        refine mget_53 K dX4_readApple_90 ?_
        refine mld_27 K hF dX4_readApple_93 (fun t15 hF => ?_)
        refine g_icmp_ne (tgt := 121) K hF dX4_readApple_94 (by decide) (fun hF => ?_) (fun hF => ?_)
        · refine g_iinc (i := 2) K hl dX4_readApple_121 rfl lc_1 rfl rfl (fun ls hl => ?_)
          refine g_goto (tgt := 64) K dX4_readApple_124 (by decide) ?_
          exact hk64 _ _ _ ls hF ha (lq_sub hl rfl)
        · refine g_aload_n (i := 0) K hl dX4_readApple_97 rfl rfl ?_
          refine mget_28 K dX4_readApple_98 ?_
          refine g_iload_n (i := 2) K hl dX4_readApple_101 rfl rfl ?_
          refine mld_28 K hF dX4_readApple_102 (fun t16 hF => ?_)
          refine g_aload_n (i := 0) K hl dX4_readApple_103 rfl rfl ?_
          refine mget_28 K dX4_readApple_104 ?_
          refine g_aload_n (i := 0) K hl dX4_readApple_107 rfl rfl ?_
          refine mget_53 K dX4_readApple_108 ?_
          refine mld_28 K hF dX4_readApple_111 (fun t17 hF => ?_)
          refine g_icmp_ne (tgt := 121) K hF dX4_readApple_112 (by decide) (fun hF => ?_) (fun hF => ?_)
          · refine g_iinc (i := 2) K hl dX4_readApple_121 rfl lc_1 rfl rfl (fun ls hl => ?_)
            refine g_goto (tgt := 64) K dX4_readApple_124 (by decide) ?_
            exact hk64 _ _ _ ls hF ha (lq_sub hl rfl)
          · refine g_aload_n (i := 0) K hl dX4_readApple_115 rfl rfl ?_
            refine g_iconst K dX4_readApple_116 lc_3 ?_
            refine g_iload_n (i := 1) K hl dX4_readApple_117 rfl rfl ?_
            refine m_callVV K hl hF ha rfl (fun t h => w_wrongAt _ _ _ t h) rfl cp_wrongAt q1964 rfl rfl rfl rfl rfl dX4_readApple_118 (fun σ18 hF ha => ?_)
            refine g_iinc (i := 2) K hl dX4_readApple_121 rfl lc_1 rfl rfl (fun ls hl => ?_)
            refine g_goto (tgt := 64) K dX4_readApple_124 (by decide) ?_
            exact hk64 _ _ _ ls hF ha (lq_sub hl rfl)
  have L64 : ∀  (n : Nat) (σ : MS) (x1 : Int32) (x2 : Int32) (ls : Array Slot), M_readApple_L64 G  n σ x1 x2 = some r → ag wr_readApple σ0 σ → lq ls 3 [(0, some (.ref qm)), (1, some (.int x1)), (2, some (.int x2))] → ZM p l e 4 s m args below meth c D cz qm wr_readApple σ0 none r σ (F0 m 64 ls []) := by
    intro  n
    induction n with
    | zero => intro σ x1 x2 ls hF; exact absurd hF (fun h => by cases h)
    | succ n ih => intro σ x1 x2 ls hF ha hl; exact B64  _ ih _ _ _ ls hF ha hl
  have ha : ag wr_readApple σ0 σ0 := ag.rf
  unfold M_readApple at hF
  refine g_aload_n (i := 0) K hl dX4_readApple_0 rfl rfl ?_
  refine g_bipush K dX4_readApple_1 lb_6 ?_
  refine g_aload_n (i := 0) K hl dX4_readApple_3 rfl rfl ?_
  refine mget_53 K dX4_readApple_4 ?_
  refine m_callVV K hl hF ha rfl (fun t h => w_newName G _ _ _ t h) rfl cp_newName q1937 rfl rfl rfl rfl rfl dX4_readApple_7 (fun σ1 hF ha => ?_)
  refine g_aload_n (i := 0) K hl dX4_readApple_10 rfl rfl ?_
  refine g_ldc2 K dX4_readApple_11 q1950 ?_
  refine m_callVV K hl hF ha rfl (fun t h => w_want G _ _ t h) rfl cp_want q1848 rfl rfl rfl rfl rfl dX4_readApple_14 (fun σ2 hF ha => ?_)
  refine g_aload_n (i := 0) K hl dX4_readApple_17 rfl rfl ?_
  refine mget_27 K dX4_readApple_18 ?_
  refine g_aload_n (i := 0) K hl dX4_readApple_21 rfl rfl ?_
  refine mget_53 K dX4_readApple_22 ?_
  refine g_aload_n (i := 0) K hl dX4_readApple_25 rfl rfl ?_
  refine g_iconst K dX4_readApple_26 lc_0 ?_
  refine g_aload_n (i := 0) K hl dX4_readApple_27 rfl rfl ?_
  refine mget_49 K dX4_readApple_28 ?_
  refine g_iconst K dX4_readApple_31 lc_1 ?_
  refine g_isub K dX4_readApple_32 ?_
  refine m_callVW K hl hF ha rfl (fun t h => w_toldNumber G _ _ _ t h) rfl cp_toldNumber q1856 rfl rfl rfl rfl rfl dX4_readApple_33 (fun t4 σ3 hF ha => ?_)
  refine mst_27 K hF ha rfl dX4_readApple_36 (fun σ5 hF ha => ?_)
  refine g_aload_n (i := 0) K hl dX4_readApple_37 rfl rfl ?_
  refine mget_7 K dX4_readApple_38 ?_
  refine g_istore_n (i := 1) K hl dX4_readApple_41 rfl rfl rfl (fun ls hl => ?_)
  refine g_aload_n (i := 0) K hl dX4_readApple_42 rfl rfl ?_
  refine mget_28 K dX4_readApple_43 ?_
  refine g_aload_n (i := 0) K hl dX4_readApple_46 rfl rfl ?_
  refine mget_53 K dX4_readApple_47 ?_
  refine g_aload_n (i := 0) K hl dX4_readApple_50 rfl rfl ?_
  refine g_iconst K dX4_readApple_51 lc_0 ?_
  refine g_aload_n (i := 0) K hl dX4_readApple_52 rfl rfl ?_
  refine mget_50 K dX4_readApple_53 ?_
  refine g_iconst K dX4_readApple_56 lc_1 ?_
  refine g_isub K dX4_readApple_57 ?_
  refine m_callVW K hl hF ha rfl (fun t h => w_toldNumber G _ _ _ t h) rfl cp_toldNumber q1856 rfl rfl rfl rfl rfl dX4_readApple_58 (fun t7 σ6 hF ha => ?_)
  refine mst_28 K hF ha rfl dX4_readApple_61 (fun σ8 hF ha => ?_)
  refine g_iconst K dX4_readApple_62 lc_0 ?_
  refine g_istore_n (i := 2) K hl dX4_readApple_63 rfl rfl rfl (fun ls hl => ?_)
  exact L64  G _ _ _ ls hF ha (lq_sub hl rfl)

theorem cp_readBy : cpV yX4_readBy cX4_readBy 1 none 0 := ⟨q1978, qs93, q152, q1979, by decide +kernel⟩
set_option maxHeartbeats 4000000 in
set_option maxRecDepth 100000 in
theorem w_readBy {l : Launch} {D : va_G} {cz : Nat → ClassId} {qm : Nat} (G : Nat) (σ0 : MS)  (r : MS) (hF : M_readBy G σ0 = some r) : mMet l D cz qm yX4_readBy cX4_readBy 1 none 2 wr_readBy [.ref qm] σ0 none r := by
  refine m_of (by decide) rfl ?_
  intro p e s m args below meth c ls K hl
  have L32 : ∀  (σ : MS) (ls : Array Slot), M_readBy_L32 G  σ = some r → ag wr_readBy σ0 σ → lq ls 1 [(0, some (.ref qm))] → ZM p l e 2 s m args below meth c D cz qm wr_readBy σ0 none r σ (F0 m 32 ls []) := by
    intro  σ ls hF ha hl
    unfold M_readBy_L32 at hF
    refine g_aload_n (i := 0) K hl dX4_readBy_32 rfl rfl ?_
    refine mget_2 K dX4_readBy_33 ?_
    refine g_if_le (tgt := 40) K hF dX4_readBy_36 (by decide) (fun hF => ?_) (fun hF => ?_)
    · refine g_aload_n (i := 0) K hl dX4_readBy_40 rfl rfl ?_
      refine mget_35 K dX4_readBy_41 ?_
      refine g_aload_n (i := 0) K hl dX4_readBy_44 rfl rfl ?_
      refine mget_54 K dX4_readBy_45 ?_
      refine g_aload_n (i := 0) K hl dX4_readBy_48 rfl rfl ?_
      refine g_iconst K dX4_readBy_49 lc_0 ?_
      refine g_aload_n (i := 0) K hl dX4_readBy_50 rfl rfl ?_
      refine mget_52 K dX4_readBy_51 ?_
      refine m_callVP K hl hF (fun t h => w_find G _ _ _ t h) rfl cp_find q1956 rfl rfl rfl rfl rfl dX4_readBy_54 (fun t1 hF => ?_)
      refine mst_35 K hF ha rfl dX4_readBy_57 (fun σ2 hF ha => ?_)
      refine g_aload_n (i := 0) K hl dX4_readBy_58 rfl rfl ?_
      refine m_callVV K hl hF ha rfl (fun t h => w_token G _  t h) rfl cp_token q1814 rfl rfl rfl rfl rfl dX4_readBy_59 (fun σ3 hF ha => ?_)
      exact m_vretV K hF ha dX4_readBy_62
    · exact m_vretV K hF ha dX4_readBy_39
  have ha : ag wr_readBy σ0 σ0 := ag.rf
  unfold M_readBy at hF
  refine g_aload_n (i := 0) K hl dX4_readBy_0 rfl rfl ?_
  refine m_callVP K hl hF (fun t h => w_isName _  t h) rfl cp_isName q1941 rfl rfl rfl rfl rfl dX4_readBy_1 (fun t1 hF => ?_)
  refine g_if_ne (tgt := 15) K hF dX4_readBy_4 (by decide) (fun hF => ?_) (fun hF => ?_)
  · refine g_aload_n (i := 0) K hl dX4_readBy_15 rfl rfl ?_
    refine g_iconst K dX4_readBy_16 lc_0 ?_
    refine g_aload_n (i := 0) K hl dX4_readBy_17 rfl rfl ?_
    refine mget_52 K dX4_readBy_18 ?_
    refine m_callVP K hl hF (fun t h => w_find G _ _ _ t h) rfl cp_find q1956 rfl rfl rfl rfl rfl dX4_readBy_21 (fun t2 hF => ?_)
    refine g_if_ge (tgt := 32) K hF dX4_readBy_24 (by decide) (fun hF => ?_) (fun hF => ?_)
    · exact L32  _ ls hF ha (lq_sub hl rfl)
    · refine g_aload_n (i := 0) K hl dX4_readBy_27 rfl rfl ?_
      refine g_iconst K dX4_readBy_28 lc_5 ?_
      refine m_callVV K hl hF ha rfl (fun t h => w_wrong _ _ t h) rfl cp_wrong q1852 rfl rfl rfl rfl rfl dX4_readBy_29 (fun σ3 hF ha => ?_)
      exact L32  _ ls hF ha (lq_sub hl rfl)
  · refine g_aload_n (i := 0) K hl dX4_readBy_7 rfl rfl ?_
    refine g_iconst K dX4_readBy_8 lc_2 ?_
    refine m_callVV K hl hF ha rfl (fun t h => w_wrong _ _ t h) rfl cp_wrong q1852 rfl rfl rfl rfl rfl dX4_readBy_9 (fun σ4 hF ha => ?_)
    refine g_goto (tgt := 32) K dX4_readBy_12 (by decide) ?_
    exact L32  _ ls hF ha (lq_sub hl rfl)

theorem cp_readBobber : cpV yX4_readBobber cX4_readBobber 1 none 0 := ⟨q1974, qs92, q152, q1975, by decide +kernel⟩
set_option maxHeartbeats 4000000 in
set_option maxRecDepth 100000 in
theorem w_readBobber {l : Launch} {D : va_G} {cz : Nat → ClassId} {qm : Nat} (G : Nat) (σ0 : MS)  (r : MS) (hF : M_readBobber G σ0 = some r) : mMet l D cz qm yX4_readBobber cX4_readBobber 1 none 4 wr_readBobber [.ref qm] σ0 none r := by
  refine m_of (by decide) rfl ?_
  intro p e s m args below meth c ls K hl
  have L137 : ∀  (σ : MS) (ls : Array Slot), M_readBobber_L137 G  σ = some r → ag wr_readBobber σ0 σ → lq ls 1 [(0, some (.ref qm))] → ZM p l e 4 s m args below meth c D cz qm wr_readBobber σ0 none r σ (F0 m 137 ls []) := by
    intro  σ ls hF ha hl
    unfold M_readBobber_L137 at hF
    refine g_aload_n (i := 0) K hl dX4_readBobber_137 rfl rfl ?_
    refine mget_2 K dX4_readBobber_138 ?_
    refine g_if_ne (tgt := 154) K hF dX4_readBobber_141 (by decide) (fun hF => ?_) (fun hF => ?_)
    · exact m_vretV K hF ha dX4_readBobber_154
    · refine g_aload_n (i := 0) K hl dX4_readBobber_144 rfl rfl ?_
      refine g_dup K dX4_readBobber_145 rfl ?_
      refine mget_54 K dX4_readBobber_146 ?_
      refine g_iconst K dX4_readBobber_149 lc_1 ?_
      refine g_iadd K dX4_readBobber_150 ?_
      refine mput_54 K hF ha rfl dX4_readBobber_151 (fun σ1 hF ha => ?_)
      exact m_vretV K hF ha dX4_readBobber_154
  have ha : ag wr_readBobber σ0 σ0 := ag.rf
  unfold M_readBobber at hF
  refine g_aload_n (i := 0) K hl dX4_readBobber_0 rfl rfl ?_
  refine g_bipush K dX4_readBobber_1 lb_16 ?_
  refine g_aload_n (i := 0) K hl dX4_readBobber_3 rfl rfl ?_
  refine mget_54 K dX4_readBobber_4 ?_
  refine m_callVV K hl hF ha rfl (fun t h => w_newName G _ _ _ t h) rfl cp_newName q1937 rfl rfl rfl rfl rfl dX4_readBobber_7 (fun σ1 hF ha => ?_)
  refine g_aload_n (i := 0) K hl dX4_readBobber_10 rfl rfl ?_
  refine g_ldc2 K dX4_readBobber_11 q1950 ?_
  refine m_callVV K hl hF ha rfl (fun t h => w_want G _ _ t h) rfl cp_want q1848 rfl rfl rfl rfl rfl dX4_readBobber_14 (fun σ2 hF ha => ?_)
  refine g_aload_n (i := 0) K hl dX4_readBobber_17 rfl rfl ?_
  refine mget_30 K dX4_readBobber_18 ?_
  refine g_aload_n (i := 0) K hl dX4_readBobber_21 rfl rfl ?_
  refine mget_54 K dX4_readBobber_22 ?_
  refine g_aload_n (i := 0) K hl dX4_readBobber_25 rfl rfl ?_
  refine g_iconst K dX4_readBobber_26 lc_0 ?_
  refine g_aload_n (i := 0) K hl dX4_readBobber_27 rfl rfl ?_
  refine mget_49 K dX4_readBobber_28 ?_
  refine g_iconst K dX4_readBobber_31 lc_1 ?_
  refine g_isub K dX4_readBobber_32 ?_
  refine m_callVW K hl hF ha rfl (fun t h => w_toldNumber G _ _ _ t h) rfl cp_toldNumber q1856 rfl rfl rfl rfl rfl dX4_readBobber_33 (fun t4 σ3 hF ha => ?_)
  refine mst_30 K hF ha rfl dX4_readBobber_36 (fun σ5 hF ha => ?_)
  refine g_aload_n (i := 0) K hl dX4_readBobber_37 rfl rfl ?_
  refine mget_31 K dX4_readBobber_38 ?_
  refine g_aload_n (i := 0) K hl dX4_readBobber_41 rfl rfl ?_
  refine mget_54 K dX4_readBobber_42 ?_
  refine g_aload_n (i := 0) K hl dX4_readBobber_45 rfl rfl ?_
  refine g_iconst K dX4_readBobber_46 lc_0 ?_
  refine g_aload_n (i := 0) K hl dX4_readBobber_47 rfl rfl ?_
  refine mget_50 K dX4_readBobber_48 ?_
  refine g_iconst K dX4_readBobber_51 lc_1 ?_
  refine g_isub K dX4_readBobber_52 ?_
  refine m_callVW K hl hF ha rfl (fun t h => w_toldNumber G _ _ _ t h) rfl cp_toldNumber q1856 rfl rfl rfl rfl rfl dX4_readBobber_53 (fun t7 σ6 hF ha => ?_)
  refine mst_31 K hF ha rfl dX4_readBobber_56 (fun σ8 hF ha => ?_)
  refine g_aload_n (i := 0) K hl dX4_readBobber_57 rfl rfl ?_
  refine mget_32 K dX4_readBobber_58 ?_
  refine g_aload_n (i := 0) K hl dX4_readBobber_61 rfl rfl ?_
  refine mget_54 K dX4_readBobber_62 ?_
  refine g_aload_n (i := 0) K hl dX4_readBobber_65 rfl rfl ?_
  refine g_ldc2 K dX4_readBobber_66 q1953 ?_
  refine g_iconst K dX4_readBobber_69 lc_0 ?_
  refine g_iconst K dX4_readBobber_70 lc_5 ?_
  refine m_callVW K hl hF ha rfl (fun t h => w_told G _ _ _ _ t h) rfl cp_told q1844 rfl rfl rfl rfl rfl dX4_readBobber_71 (fun t10 σ9 hF ha => ?_)
  refine mst_32 K hF ha rfl dX4_readBobber_74 (fun σ11 hF ha => ?_)
  refine g_aload_n (i := 0) K hl dX4_readBobber_75 rfl rfl ?_
  refine mget_33 K dX4_readBobber_76 ?_
  refine g_aload_n (i := 0) K hl dX4_readBobber_79 rfl rfl ?_
  refine mget_54 K dX4_readBobber_80 ?_
  refine g_aload_n (i := 0) K hl dX4_readBobber_83 rfl rfl ?_
  refine g_ldc2 K dX4_readBobber_84 q1908 ?_
  refine g_iconst K dX4_readBobber_87 lc_0 ?_
  refine g_bipush K dX4_readBobber_88 lb_20 ?_
  refine m_callVW K hl hF ha rfl (fun t h => w_told G _ _ _ _ t h) rfl cp_told q1844 rfl rfl rfl rfl rfl dX4_readBobber_90 (fun t13 σ12 hF ha => ?_)
  refine mst_33 K hF ha rfl dX4_readBobber_93 (fun σ14 hF ha => ?_)
  refine g_aload_n (i := 0) K hl dX4_readBobber_94 rfl rfl ?_
  refine mget_34 K dX4_readBobber_95 ?_
  refine g_aload_n (i := 0) K hl dX4_readBobber_98 rfl rfl ?_
  refine mget_54 K dX4_readBobber_99 ?_
  refine g_aload_n (i := 0) K hl dX4_readBobber_102 rfl rfl ?_
  refine g_ldc2 K dX4_readBobber_103 q1907 ?_
  refine g_iconst K dX4_readBobber_106 lc_0 ?_
  refine g_bipush K dX4_readBobber_107 lb_9 ?_
  refine m_callVW K hl hF ha rfl (fun t h => w_told G _ _ _ _ t h) rfl cp_told q1844 rfl rfl rfl rfl rfl dX4_readBobber_109 (fun t16 σ15 hF ha => ?_)
  refine mst_34 K hF ha rfl dX4_readBobber_112 (fun σ17 hF ha => ?_)
  refine g_aload_n (i := 0) K hl dX4_readBobber_113 rfl rfl ?_
  refine mget_35 K dX4_readBobber_114 ?_
  refine g_aload_n (i := 0) K hl dX4_readBobber_117 rfl rfl ?_
  refine mget_54 K dX4_readBobber_118 ?_
  refine g_iconst K dX4_readBobber_121 lc_0 ?_
  refine mst_35 K hF ha rfl dX4_readBobber_122 (fun σ18 hF ha => ?_)
  refine g_aload_n (i := 0) K hl dX4_readBobber_123 rfl rfl ?_
  refine g_ldc2 K dX4_readBobber_124 q1860 ?_
  refine m_callVW K hl hF ha rfl (fun t h => w_takes G _ _ t h) rfl cp_takes q1968 rfl rfl rfl rfl rfl dX4_readBobber_127 (fun t20 σ19 hF ha => ?_)
  refine g_if_eq (tgt := 137) K hF dX4_readBobber_130 (by decide) (fun hF => ?_) (fun hF => ?_)
  · exact L137  _ ls hF ha (lq_sub hl rfl)
  · refine g_aload_n (i := 0) K hl dX4_readBobber_133 rfl rfl ?_
    refine m_callVV K hl hF ha rfl (fun t h => w_readBy G _  t h) rfl cp_readBy q1976 rfl rfl rfl rfl rfl dX4_readBobber_134 (fun σ21 hF ha => ?_)
    exact L137  _ ls hF ha (lq_sub hl rfl)

theorem cp_readDraw : cpV yX4_readDraw cX4_readDraw 1 none 0 := ⟨q1982, qs94, q152, q1983, by decide +kernel⟩
set_option maxHeartbeats 4000000 in
set_option maxRecDepth 100000 in
theorem w_readDraw {l : Launch} {D : va_G} {cz : Nat → ClassId} {qm : Nat} (G : Nat) (σ0 : MS)  (r : MS) (hF : M_readDraw G σ0 = some r) : mMet l D cz qm yX4_readDraw cX4_readDraw 1 none 4 wr_readDraw [.ref qm] σ0 none r := by
  refine m_of (by decide) rfl ?_
  intro p e s m args below meth c ls K hl
  have ha : ag wr_readDraw σ0 σ0 := ag.rf
  unfold M_readDraw at hF
  refine g_aload_n (i := 0) K hl dX4_readDraw_0 rfl rfl ?_
  refine g_iconst K dX4_readDraw_1 lc_1 ?_
  refine mput_62 K hF ha rfl (Or.inr rfl) dX4_readDraw_2 (fun σ1 hF ha => ?_)
  refine g_aload_n (i := 0) K hl dX4_readDraw_5 rfl rfl ?_
  refine g_aload_n (i := 0) K hl dX4_readDraw_6 rfl rfl ?_
  refine g_ldc2 K dX4_readDraw_7 q1954 ?_
  refine g_iconst K dX4_readDraw_10 lc_0 ?_
  refine g_sipush K dX4_readDraw_11 ls_999 ?_
  refine m_callVW K hl hF ha rfl (fun t h => w_told G _ _ _ _ t h) rfl cp_told q1844 rfl rfl rfl rfl rfl dX4_readDraw_14 (fun t3 σ2 hF ha => ?_)
  refine mput_55 K hF ha rfl dX4_readDraw_17 (fun σ4 hF ha => ?_)
  exact m_vretV K hF ha dX4_readDraw_20

theorem cp_readBite : cpV yX4_readBite cX4_readBite 1 none 0 := ⟨q1986, qs95, q152, q1987, by decide +kernel⟩
set_option maxHeartbeats 4000000 in
set_option maxRecDepth 100000 in
theorem w_readBite {l : Launch} {D : va_G} {cz : Nat → ClassId} {qm : Nat} (G : Nat) (σ0 : MS)  (r : MS) (hF : M_readBite G σ0 = some r) : mMet l D cz qm yX4_readBite cX4_readBite 1 none 4 wr_readBite [.ref qm] σ0 none r := by
  refine m_of (by decide) rfl ?_
  intro p e s m args below meth c ls K hl
  have ha : ag wr_readBite σ0 σ0 := ag.rf
  unfold M_readBite at hF
  refine g_aload_n (i := 0) K hl dX4_readBite_0 rfl rfl ?_
  refine g_iconst K dX4_readBite_1 lc_1 ?_
  refine mput_63 K hF ha rfl (Or.inr rfl) dX4_readBite_2 (fun σ1 hF ha => ?_)
  refine g_aload_n (i := 0) K hl dX4_readBite_5 rfl rfl ?_
  refine g_aload_n (i := 0) K hl dX4_readBite_6 rfl rfl ?_
  refine g_ldc2 K dX4_readBite_7 q1955 ?_
  refine g_iconst K dX4_readBite_10 lc_0 ?_
  refine g_bipush K dX4_readBite_11 lb_9 ?_
  refine m_callVW K hl hF ha rfl (fun t h => w_told G _ _ _ _ t h) rfl cp_told q1844 rfl rfl rfl rfl rfl dX4_readBite_13 (fun t3 σ2 hF ha => ?_)
  refine mput_64 K hF ha rfl dX4_readBite_16 (fun σ4 hF ha => ?_)
  exact m_vretV K hF ha dX4_readBite_19

theorem cp_readLine : cpV yX4_readLine cX4_readLine 1 none 0 := ⟨q1833, qs64, q152, q1834, by decide +kernel⟩
set_option maxHeartbeats 4000000 in
set_option maxRecDepth 100000 in
theorem w_readLine {l : Launch} {D : va_G} {cz : Nat → ClassId} {qm : Nat} (G : Nat) (σ0 : MS)  (r : MS) (hF : M_readLine G σ0 = some r) : mMet l D cz qm yX4_readLine cX4_readLine 1 none 6 wr_readLine [.ref qm] σ0 none r := by
  refine m_of (by decide) rfl ?_
  intro p e s m args below meth c ls K hl
  have L207 : ∀  (σ : MS) (ls : Array Slot), M_readLine_L207 G  σ = some r → ag wr_readLine σ0 σ → lq ls 1 [(0, some (.ref qm))] → ZM p l e 6 s m args below meth c D cz qm wr_readLine σ0 none r σ (F0 m 207 ls []) := by
    intro  σ ls hF ha hl
    unfold M_readLine_L207 at hF
    refine g_aload_n (i := 0) K hl dX4_readLine_207 rfl rfl ?_
    refine mget_2 K dX4_readLine_208 ?_
    refine g_if_ne (tgt := 218) K hF dX4_readLine_211 (by decide) (fun hF => ?_) (fun hF => ?_)
    · exact m_vretV K hF ha dX4_readLine_218
    · refine g_aload_n (i := 0) K hl dX4_readLine_214 rfl rfl ?_
      refine m_callVV K hl hF ha rfl (fun t h => w_token G _  t h) rfl cp_token q1814 rfl rfl rfl rfl rfl dX4_readLine_215 (fun σ1 hF ha => ?_)
      exact m_vretV K hF ha dX4_readLine_218
  have L186 : ∀  (σ : MS) (ls : Array Slot), M_readLine_L186 G  σ = some r → ag wr_readLine σ0 σ → lq ls 1 [(0, some (.ref qm))] → ZM p l e 6 s m args below meth c D cz qm wr_readLine σ0 none r σ (F0 m 186 ls []) := by
    intro  σ ls hF ha hl
    unfold M_readLine_L186 at hF
    refine g_aload_n (i := 0) K hl dX4_readLine_186 rfl rfl ?_
    refine mget_2 K dX4_readLine_187 ?_
    refine g_if_ne (tgt := 207) K hF dX4_readLine_190 (by decide) (fun hF => ?_) (fun hF => ?_)
    · exact L207  _ ls hF ha (lq_sub hl rfl)
    · refine g_aload_n (i := 0) K hl dX4_readLine_193 rfl rfl ?_
      refine mget_6 K dX4_readLine_194 ?_
      refine g_bipush K dX4_readLine_197 lb_59 ?_
      refine g_icmp_eq (tgt := 207) K hF dX4_readLine_199 (by decide) (fun hF => ?_) (fun hF => ?_)
      · exact L207  _ ls hF ha (lq_sub hl rfl)
      · refine g_aload_n (i := 0) K hl dX4_readLine_202 rfl rfl ?_
        refine g_iconst K dX4_readLine_203 lc_2 ?_
        refine m_callVV K hl hF ha rfl (fun t h => w_wrong _ _ t h) rfl cp_wrong q1852 rfl rfl rfl rfl rfl dX4_readLine_204 (fun σ1 hF ha => ?_)
        exact L207  _ ls hF ha (lq_sub hl rfl)
  have L181 : ∀  (σ : MS) (ls : Array Slot), M_readLine_L181 G  σ = some r → ag wr_readLine σ0 σ → lq ls 1 [(0, some (.ref qm))] → ZM p l e 6 s m args below meth c D cz qm wr_readLine σ0 none r σ (F0 m 181 ls []) := by
    intro  σ ls hF ha hl
    unfold M_readLine_L181 at hF
    refine g_aload_n (i := 0) K hl dX4_readLine_181 rfl rfl ?_
    refine g_iconst K dX4_readLine_182 lc_2 ?_
    refine m_callVV K hl hF ha rfl (fun t h => w_wrong _ _ t h) rfl cp_wrong q1852 rfl rfl rfl rfl rfl dX4_readLine_183 (fun σ1 hF ha => ?_)
    exact L186  _ ls hF ha (lq_sub hl rfl)
  have L157 : ∀  (σ : MS) (ls : Array Slot), M_readLine_L157 G  σ = some r → ag wr_readLine σ0 σ → lq ls 1 [(0, some (.ref qm))] → ZM p l e 6 s m args below meth c D cz qm wr_readLine σ0 none r σ (F0 m 157 ls []) := by
    intro  σ ls hF ha hl
    unfold M_readLine_L157 at hF
    refine g_aload_n (i := 0) K hl dX4_readLine_157 rfl rfl ?_
    refine g_ldc2 K dX4_readLine_158 q1955 ?_
    refine m_callVP K hl hF (fun t h => w_isWord _ _ t h) rfl cp_isWord q1836 rfl rfl rfl rfl rfl dX4_readLine_161 (fun t1 hF => ?_)
    refine g_if_eq (tgt := 181) K hF dX4_readLine_164 (by decide) (fun hF => ?_) (fun hF => ?_)
    · exact L181  _ ls hF ha (lq_sub hl rfl)
    · refine g_aload_n (i := 0) K hl dX4_readLine_167 rfl rfl ?_
      refine mget_63 K dX4_readLine_168 ?_
      refine g_if_ne (tgt := 181) K hF dX4_readLine_171 (by decide) (fun hF => ?_) (fun hF => ?_)
      · exact L181  _ ls hF ha (lq_sub hl rfl)
      · refine g_aload_n (i := 0) K hl dX4_readLine_174 rfl rfl ?_
        refine m_callVV K hl hF ha rfl (fun t h => w_readBite G _  t h) rfl cp_readBite q1984 rfl rfl rfl rfl rfl dX4_readLine_175 (fun σ2 hF ha => ?_)
        refine g_goto (tgt := 186) K dX4_readLine_178 (by decide) ?_
        exact L186  _ ls hF ha (lq_sub hl rfl)
  have L133 : ∀  (σ : MS) (ls : Array Slot), M_readLine_L133 G  σ = some r → ag wr_readLine σ0 σ → lq ls 1 [(0, some (.ref qm))] → ZM p l e 6 s m args below meth c D cz qm wr_readLine σ0 none r σ (F0 m 133 ls []) := by
    intro  σ ls hF ha hl
    unfold M_readLine_L133 at hF
    refine g_aload_n (i := 0) K hl dX4_readLine_133 rfl rfl ?_
    refine g_ldc2 K dX4_readLine_134 q1954 ?_
    refine m_callVP K hl hF (fun t h => w_isWord _ _ t h) rfl cp_isWord q1836 rfl rfl rfl rfl rfl dX4_readLine_137 (fun t1 hF => ?_)
    refine g_if_eq (tgt := 157) K hF dX4_readLine_140 (by decide) (fun hF => ?_) (fun hF => ?_)
    · exact L157  _ ls hF ha (lq_sub hl rfl)
    · refine g_aload_n (i := 0) K hl dX4_readLine_143 rfl rfl ?_
      refine mget_62 K dX4_readLine_144 ?_
      refine g_if_ne (tgt := 157) K hF dX4_readLine_147 (by decide) (fun hF => ?_) (fun hF => ?_)
      · exact L157  _ ls hF ha (lq_sub hl rfl)
      · refine g_aload_n (i := 0) K hl dX4_readLine_150 rfl rfl ?_
        refine m_callVV K hl hF ha rfl (fun t h => w_readDraw G _  t h) rfl cp_readDraw q1980 rfl rfl rfl rfl rfl dX4_readLine_151 (fun σ2 hF ha => ?_)
        refine g_goto (tgt := 186) K dX4_readLine_154 (by decide) ?_
        exact L186  _ ls hF ha (lq_sub hl rfl)
  have L108 : ∀  (σ : MS) (ls : Array Slot), M_readLine_L108 G  σ = some r → ag wr_readLine σ0 σ → lq ls 1 [(0, some (.ref qm))] → ZM p l e 6 s m args below meth c D cz qm wr_readLine σ0 none r σ (F0 m 108 ls []) := by
    intro  σ ls hF ha hl
    unfold M_readLine_L108 at hF
    refine g_aload_n (i := 0) K hl dX4_readLine_108 rfl rfl ?_
    refine g_ldc2 K dX4_readLine_109 q1952 ?_
    refine m_callVP K hl hF (fun t h => w_isWord _ _ t h) rfl cp_isWord q1836 rfl rfl rfl rfl rfl dX4_readLine_112 (fun t1 hF => ?_)
    refine g_if_eq (tgt := 133) K hF dX4_readLine_115 (by decide) (fun hF => ?_) (fun hF => ?_)
    · exact L133  _ ls hF ha (lq_sub hl rfl)
    · refine g_aload_n (i := 0) K hl dX4_readLine_118 rfl rfl ?_
      refine mget_54 K dX4_readLine_119 ?_
      refine g_iconst K dX4_readLine_122 lc_4 ?_
      refine g_icmp_ge (tgt := 133) K hF dX4_readLine_123 (by decide) (fun hF => ?_) (fun hF => ?_)
      · exact L133  _ ls hF ha (lq_sub hl rfl)
      · refine g_aload_n (i := 0) K hl dX4_readLine_126 rfl rfl ?_
        refine m_callVV K hl hF ha rfl (fun t h => w_readBobber G _  t h) rfl cp_readBobber q1972 rfl rfl rfl rfl rfl dX4_readLine_127 (fun σ2 hF ha => ?_)
        refine g_goto (tgt := 186) K dX4_readLine_130 (by decide) ?_
        exact L186  _ ls hF ha (lq_sub hl rfl)
  have L82 : ∀  (σ : MS) (ls : Array Slot), M_readLine_L82 G  σ = some r → ag wr_readLine σ0 σ → lq ls 1 [(0, some (.ref qm))] → ZM p l e 6 s m args below meth c D cz qm wr_readLine σ0 none r σ (F0 m 82 ls []) := by
    intro  σ ls hF ha hl
    unfold M_readLine_L82 at hF
    refine g_aload_n (i := 0) K hl dX4_readLine_82 rfl rfl ?_
    refine g_ldc2 K dX4_readLine_83 q1949 ?_
    refine m_callVP K hl hF (fun t h => w_isWord _ _ t h) rfl cp_isWord q1836 rfl rfl rfl rfl rfl dX4_readLine_86 (fun t1 hF => ?_)
    refine g_if_eq (tgt := 108) K hF dX4_readLine_89 (by decide) (fun hF => ?_) (fun hF => ?_)
    · exact L108  _ ls hF ha (lq_sub hl rfl)
    · refine g_aload_n (i := 0) K hl dX4_readLine_92 rfl rfl ?_
      refine mget_53 K dX4_readLine_93 ?_
      refine g_bipush K dX4_readLine_96 lb_10 ?_
      refine g_icmp_ge (tgt := 108) K hF dX4_readLine_98 (by decide) (fun hF => ?_) (fun hF => ?_)
      · exact L108  _ ls hF ha (lq_sub hl rfl)
      · refine g_aload_n (i := 0) K hl dX4_readLine_101 rfl rfl ?_
        refine m_callVV K hl hF ha rfl (fun t h => w_readApple G _  t h) rfl cp_readApple q1960 rfl rfl rfl rfl rfl dX4_readLine_102 (fun σ2 hF ha => ?_)
        refine g_goto (tgt := 186) K dX4_readLine_105 (by decide) ?_
        exact L186  _ ls hF ha (lq_sub hl rfl)
  have L24 : ∀  (σ : MS) (ls : Array Slot), M_readLine_L24 G  σ = some r → ag wr_readLine σ0 σ → lq ls 1 [(0, some (.ref qm))] → ZM p l e 6 s m args below meth c D cz qm wr_readLine σ0 none r σ (F0 m 24 ls []) := by
    intro  σ ls hF ha hl
    unfold M_readLine_L24 at hF
    refine g_aload_n (i := 0) K hl dX4_readLine_24 rfl rfl ?_
    refine mget_49 K dX4_readLine_25 ?_
    refine g_if_ne (tgt := 39) K hF dX4_readLine_28 (by decide) (fun hF => ?_) (fun hF => ?_)
    · refine g_aload_n (i := 0) K hl dX4_readLine_39 rfl rfl ?_
      refine g_ldc2 K dX4_readLine_40 q1861 ?_
      refine m_callVP K hl hF (fun t h => w_isWord _ _ t h) rfl cp_isWord q1836 rfl rfl rfl rfl rfl dX4_readLine_43 (fun t1 hF => ?_)
      refine g_if_eq (tgt := 56) K hF dX4_readLine_46 (by decide) (fun hF => ?_) (fun hF => ?_)
      · refine g_aload_n (i := 0) K hl dX4_readLine_56 rfl rfl ?_
        refine g_ldc2 K dX4_readLine_57 q1932 ?_
        refine m_callVP K hl hF (fun t h => w_isWord _ _ t h) rfl cp_isWord q1836 rfl rfl rfl rfl rfl dX4_readLine_60 (fun t2 hF => ?_)
        refine g_if_eq (tgt := 82) K hF dX4_readLine_63 (by decide) (fun hF => ?_) (fun hF => ?_)
        · exact L82  _ ls hF ha (lq_sub hl rfl)
        · refine g_aload_n (i := 0) K hl dX4_readLine_66 rfl rfl ?_
          refine mget_52 K dX4_readLine_67 ?_
          refine g_bipush K dX4_readLine_70 lb_6 ?_
          refine g_icmp_ge (tgt := 82) K hF dX4_readLine_72 (by decide) (fun hF => ?_) (fun hF => ?_)
          · exact L82  _ ls hF ha (lq_sub hl rfl)
          · refine g_aload_n (i := 0) K hl dX4_readLine_75 rfl rfl ?_
            refine m_callVV K hl hF ha rfl (fun t h => w_readRule G _  t h) rfl cp_readRule q1933 rfl rfl rfl rfl rfl dX4_readLine_76 (fun σ3 hF ha => ?_)
            refine g_goto (tgt := 186) K dX4_readLine_79 (by decide) ?_
            exact L186  _ ls hF ha (lq_sub hl rfl)
      · refine g_aload_n (i := 0) K hl dX4_readLine_49 rfl rfl ?_
        refine m_callVV K hl hF ha rfl (fun t h => w_readOdds G _  t h) rfl cp_readOdds q1862 rfl rfl rfl rfl rfl dX4_readLine_50 (fun σ4 hF ha => ?_)
        refine g_goto (tgt := 186) K dX4_readLine_53 (by decide) ?_
        exact L186  _ ls hF ha (lq_sub hl rfl)
    · refine g_aload_n (i := 0) K hl dX4_readLine_31 rfl rfl ?_
      refine g_iconst K dX4_readLine_32 lc_2 ?_
      refine m_callVV K hl hF ha rfl (fun t h => w_wrong _ _ t h) rfl cp_wrong q1852 rfl rfl rfl rfl rfl dX4_readLine_33 (fun σ5 hF ha => ?_)
      refine g_goto (tgt := 186) K dX4_readLine_36 (by decide) ?_
      exact L186  _ ls hF ha (lq_sub hl rfl)
  have ha : ag wr_readLine σ0 σ0 := ag.rf
  unfold M_readLine at hF
  refine g_aload_n (i := 0) K hl dX4_readLine_0 rfl rfl ?_
  refine g_ldc2 K dX4_readLine_1 q1835 ?_
  refine m_callVP K hl hF (fun t h => w_isWord _ _ t h) rfl cp_isWord q1836 rfl rfl rfl rfl rfl dX4_readLine_4 (fun t1 hF => ?_)
  refine g_if_eq (tgt := 24) K hF dX4_readLine_7 (by decide) (fun hF => ?_) (fun hF => ?_)
  · exact L24  _ ls hF ha (lq_sub hl rfl)
  · refine g_aload_n (i := 0) K hl dX4_readLine_10 rfl rfl ?_
    refine mget_49 K dX4_readLine_11 ?_
    refine g_if_ne (tgt := 24) K hF dX4_readLine_14 (by decide) (fun hF => ?_) (fun hF => ?_)
    · exact L24  _ ls hF ha (lq_sub hl rfl)
    · refine g_aload_n (i := 0) K hl dX4_readLine_17 rfl rfl ?_
      refine m_callVV K hl hF ha rfl (fun t h => w_readTub G _  t h) rfl cp_readTub q1840 rfl rfl rfl rfl rfl dX4_readLine_18 (fun σ2 hF ha => ?_)
      refine g_goto (tgt := 186) K dX4_readLine_21 (by decide) ?_
      exact L186  _ ls hF ha (lq_sub hl rfl)

theorem cp_readAll : cpV yX4_readAll cX4_readAll 1 none 0 := ⟨q1812, qs61, q152, q1813, by decide +kernel⟩
set_option maxHeartbeats 4000000 in
set_option maxRecDepth 100000 in
theorem w_readAll {l : Launch} {D : va_G} {cz : Nat → ClassId} {qm : Nat} (G : Nat) (σ0 : MS)  (r : MS) (hF : M_readAll G σ0 = some r) : mMet l D cz qm yX4_readAll cX4_readAll 1 none 7 wr_readAll [.ref qm] σ0 none r := by
  refine m_of (by decide) rfl ?_
  intro p e s m args below meth c ls K hl
  have B88 : ∀ (k88 : MS → Option MS) (hk88 : (∀ (σ : MS) (ls : Array Slot), k88 σ = some r → ag wr_readAll σ0 σ → lq ls 1 [(0, some (.ref qm))] → ZM p l e 7 s m args below meth c D cz qm wr_readAll σ0 none r σ (F0 m 88 ls []))) (σ : MS) (ls : Array Slot), M_readAll_B88 G k88 σ = some r → ag wr_readAll σ0 σ → lq ls 1 [(0, some (.ref qm))] → ZM p l e 7 s m args below meth c D cz qm wr_readAll σ0 none r σ (F0 m 88 ls []) := by
    intro k88 hk88 σ ls hF ha hl
    unfold M_readAll_B88 at hF
    refine g_aload_n (i := 0) K hl dX4_readAll_88 rfl rfl ?_
    refine mget_2 K dX4_readAll_89 ?_
    refine g_if_ne (tgt := 109) K hF dX4_readAll_92 (by decide) (fun hF => ?_) (fun hF => ?_)
    · exact m_vretV K hF ha dX4_readAll_109
    · refine g_aload_n (i := 0) K hl dX4_readAll_95 rfl rfl ?_
      refine mget_6 K dX4_readAll_96 ?_
      refine g_if_eq (tgt := 109) K hF dX4_readAll_99 (by decide) (fun hF => ?_) (fun hF => ?_)
      · exact m_vretV K hF ha dX4_readAll_109
      · refine g_aload_n (i := 0) K hl dX4_readAll_102 rfl rfl ?_
        refine m_callVV K hl hF ha rfl (fun t h => w_readLine G _  t h) rfl cp_readLine q1831 rfl rfl rfl rfl rfl dX4_readAll_103 (fun σ1 hF ha => ?_)
        refine g_goto (tgt := 88) K dX4_readAll_106 (by decide) ?_
        exact hk88 _ ls hF ha (lq_sub hl rfl)
  have L88 : ∀  (n : Nat) (σ : MS) (ls : Array Slot), M_readAll_L88 G  n σ = some r → ag wr_readAll σ0 σ → lq ls 1 [(0, some (.ref qm))] → ZM p l e 7 s m args below meth c D cz qm wr_readAll σ0 none r σ (F0 m 88 ls []) := by
    intro  n
    induction n with
    | zero => intro σ ls hF; exact absurd hF (fun h => by cases h)
    | succ n ih => intro σ ls hF ha hl; exact B88  _ ih _ ls hF ha hl
  have ha : ag wr_readAll σ0 σ0 := ag.rf
  unfold M_readAll at hF
  refine g_aload_n (i := 0) K hl dX4_readAll_0 rfl rfl ?_
  refine g_aload_n (i := 0) K hl dX4_readAll_1 rfl rfl ?_
  refine mget_1 K dX4_readAll_2 ?_
  refine mput_5 K hF ha rfl dX4_readAll_5 (fun σ1 hF ha => ?_)
  refine g_aload_n (i := 0) K hl dX4_readAll_8 rfl rfl ?_
  refine g_iconst K dX4_readAll_9 lc_0 ?_
  refine mput_1 K hF ha rfl dX4_readAll_10 (fun σ2 hF ha => ?_)
  refine g_aload_n (i := 0) K hl dX4_readAll_13 rfl rfl ?_
  refine g_iconst K dX4_readAll_14 lc_0 ?_
  refine mput_4 K hF ha rfl dX4_readAll_15 (fun σ3 hF ha => ?_)
  refine g_aload_n (i := 0) K hl dX4_readAll_18 rfl rfl ?_
  refine g_iconst K dX4_readAll_19 lc_0 ?_
  refine mput_2 K hF ha rfl dX4_readAll_20 (fun σ4 hF ha => ?_)
  refine g_aload_n (i := 0) K hl dX4_readAll_23 rfl rfl ?_
  refine g_iconst K dX4_readAll_24 lc_m1 ?_
  refine mput_3 K hF ha rfl dX4_readAll_25 (fun σ5 hF ha => ?_)
  refine g_aload_n (i := 0) K hl dX4_readAll_28 rfl rfl ?_
  refine g_iconst K dX4_readAll_29 lc_0 ?_
  refine mput_49 K hF ha rfl dX4_readAll_30 (fun σ6 hF ha => ?_)
  refine g_aload_n (i := 0) K hl dX4_readAll_33 rfl rfl ?_
  refine g_iconst K dX4_readAll_34 lc_0 ?_
  refine mput_50 K hF ha rfl dX4_readAll_35 (fun σ7 hF ha => ?_)
  refine g_aload_n (i := 0) K hl dX4_readAll_38 rfl rfl ?_
  refine g_iconst K dX4_readAll_39 lc_0 ?_
  refine mput_51 K hF ha rfl dX4_readAll_40 (fun σ8 hF ha => ?_)
  refine g_aload_n (i := 0) K hl dX4_readAll_43 rfl rfl ?_
  refine g_iconst K dX4_readAll_44 lc_0 ?_
  refine mput_52 K hF ha rfl dX4_readAll_45 (fun σ9 hF ha => ?_)
  refine g_aload_n (i := 0) K hl dX4_readAll_48 rfl rfl ?_
  refine g_iconst K dX4_readAll_49 lc_0 ?_
  refine mput_53 K hF ha rfl dX4_readAll_50 (fun σ10 hF ha => ?_)
  refine g_aload_n (i := 0) K hl dX4_readAll_53 rfl rfl ?_
  refine g_iconst K dX4_readAll_54 lc_0 ?_
  refine mput_54 K hF ha rfl dX4_readAll_55 (fun σ11 hF ha => ?_)
  refine g_aload_n (i := 0) K hl dX4_readAll_58 rfl rfl ?_
  refine g_iconst K dX4_readAll_59 lc_0 ?_
  refine mput_55 K hF ha rfl dX4_readAll_60 (fun σ12 hF ha => ?_)
  refine g_aload_n (i := 0) K hl dX4_readAll_63 rfl rfl ?_
  refine g_iconst K dX4_readAll_64 lc_0 ?_
  refine mput_62 K hF ha rfl (Or.inl rfl) dX4_readAll_65 (fun σ13 hF ha => ?_)
  refine g_aload_n (i := 0) K hl dX4_readAll_68 rfl rfl ?_
  refine g_bipush K dX4_readAll_69 lb_10 ?_
  refine mput_64 K hF ha rfl dX4_readAll_71 (fun σ14 hF ha => ?_)
  refine g_aload_n (i := 0) K hl dX4_readAll_74 rfl rfl ?_
  refine g_iconst K dX4_readAll_75 lc_0 ?_
  refine mput_63 K hF ha rfl (Or.inl rfl) dX4_readAll_76 (fun σ15 hF ha => ?_)
  refine g_aload_n (i := 0) K hl dX4_readAll_79 rfl rfl ?_
  refine g_iconst K dX4_readAll_80 lc_0 ?_
  refine mput_20 K hF ha rfl dX4_readAll_81 (fun σ16 hF ha => ?_)
  refine g_aload_n (i := 0) K hl dX4_readAll_84 rfl rfl ?_
  refine m_callVV K hl hF ha rfl (fun t h => w_token G _  t h) rfl cp_token q1814 rfl rfl rfl rfl rfl dX4_readAll_85 (fun σ17 hF ha => ?_)
  exact L88  G _ ls hF ha (lq_sub hl rfl)

theorem cp_keep : cpV yX4_keep cX4_keep 2 none 0 := ⟨q1994, qs97, q152, q1995, by decide +kernel⟩
set_option maxHeartbeats 4000000 in
set_option maxRecDepth 100000 in
theorem w_keep {l : Launch} {D : va_G} {cz : Nat → ClassId} {qm : Nat} (G : Nat) (σ0 : MS)  (r : MS) (hF : M_keep G σ0 = some r) : mMet l D cz qm yX4_keep cX4_keep 2 none 0 wr_keep [.ref qm] σ0 none r := by
  refine m_of (by decide) rfl ?_
  intro p e s m args below meth c ls K hl
  have B2 : ∀ (k2 : MS → Int32 → Option MS) (hk2 : (∀ (σ : MS) (x1 : Int32) (ls : Array Slot), k2 σ x1 = some r → ag wr_keep σ0 σ → lq ls 2 [(0, some (.ref qm)), (1, some (.int x1))] → ZM p l e 0 s m args below meth c D cz qm wr_keep σ0 none r σ (F0 m 2 ls []))) (σ : MS) (x1 : Int32) (ls : Array Slot), M_keep_B2 G k2 σ x1 = some r → ag wr_keep σ0 σ → lq ls 2 [(0, some (.ref qm)), (1, some (.int x1))] → ZM p l e 0 s m args below meth c D cz qm wr_keep σ0 none r σ (F0 m 2 ls []) := by
    intro k2 hk2 σ x1 ls hF ha hl
    unfold M_keep_B2 at hF
    refine g_iload_n (i := 1) K hl dX4_keep_2 rfl rfl ?_
    refine g_bipush K dX4_keep_3 lb_123 ?_
    refine g_icmp_ge (tgt := 26) K hF dX4_keep_5 (by decide) (fun hF => ?_) (fun hF => ?_)
    · exact m_vretV K hF ha dX4_keep_26
    · refine g_aload_n (i := 0) K hl dX4_keep_8 rfl rfl ?_
      refine mget_67 K dX4_keep_9 ?_
      refine g_iload_n (i := 1) K hl dX4_keep_12 rfl rfl ?_
      refine g_aload_n (i := 0) K hl dX4_keep_13 rfl rfl ?_
      refine mget_66 K dX4_keep_14 ?_
      refine g_iload_n (i := 1) K hl dX4_keep_17 rfl rfl ?_
      refine mld_66 K hF dX4_keep_18 (fun t1 hF => ?_)
      refine mst_67 K hF ha rfl dX4_keep_19 (fun σ2 hF ha => ?_)
      refine g_iinc (i := 1) K hl dX4_keep_20 rfl lc_1 rfl rfl (fun ls hl => ?_)
      refine g_goto (tgt := 2) K dX4_keep_23 (by decide) ?_
      exact hk2 _ _ ls hF ha (lq_sub hl rfl)
  have L2 : ∀  (n : Nat) (σ : MS) (x1 : Int32) (ls : Array Slot), M_keep_L2 G  n σ x1 = some r → ag wr_keep σ0 σ → lq ls 2 [(0, some (.ref qm)), (1, some (.int x1))] → ZM p l e 0 s m args below meth c D cz qm wr_keep σ0 none r σ (F0 m 2 ls []) := by
    intro  n
    induction n with
    | zero => intro σ x1 ls hF; exact absurd hF (fun h => by cases h)
    | succ n ih => intro σ x1 ls hF ha hl; exact B2  _ ih _ _ ls hF ha hl
  have ha : ag wr_keep σ0 σ0 := ag.rf
  unfold M_keep at hF
  refine g_iconst K dX4_keep_0 lc_0 ?_
  refine g_istore_n (i := 1) K hl dX4_keep_1 rfl rfl rfl (fun ls hl => ?_)
  exact L2  G _ _ ls hF ha (lq_sub hl rfl)

theorem cp_layTold : cpV yX4_layTold cX4_layTold 2 none 0 := ⟨q1990, qs96, q152, q1991, by decide +kernel⟩
set_option maxHeartbeats 4000000 in
set_option maxRecDepth 100000 in
theorem w_layTold {l : Launch} {D : va_G} {cz : Nat → ClassId} {qm : Nat} (G : Nat) (σ0 : MS)  (r : MS) (hF : M_layTold G σ0 = some r) : mMet l D cz qm yX4_layTold cX4_layTold 2 none 0 wr_layTold [.ref qm] σ0 none r := by
  refine m_of (by decide) rfl ?_
  intro p e s m args below meth c ls K hl
  have B84 : ∀ (k84 : MS → Int32 → Option MS) (hk84 : (∀ (σ : MS) (x1 : Int32) (ls : Array Slot), k84 σ x1 = some r → ag wr_layTold σ0 σ → lq ls 2 [(0, some (.ref qm)), (1, some (.int x1))] → ZM p l e 0 s m args below meth c D cz qm wr_layTold σ0 none r σ (F0 m 84 ls []))) (σ : MS) (x1 : Int32) (ls : Array Slot), M_layTold_B84 G k84 σ x1 = some r → ag wr_layTold σ0 σ → lq ls 2 [(0, some (.ref qm)), (1, some (.int x1))] → ZM p l e 0 s m args below meth c D cz qm wr_layTold σ0 none r σ (F0 m 84 ls []) := by
    intro k84 hk84 σ x1 ls hF ha hl
    unfold M_layTold_B84 at hF
    refine g_iload_n (i := 1) K hl dX4_layTold_84 rfl rfl ?_
    refine g_iconst K dX4_layTold_85 lc_4 ?_
    refine g_icmp_ge (tgt := 136) K hF dX4_layTold_86 (by decide) (fun hF => ?_) (fun hF => ?_)
    · exact m_vretV K hF ha dX4_layTold_136
    · refine g_aload_n (i := 0) K hl dX4_layTold_89 rfl rfl ?_
      refine mget_66 K dX4_layTold_90 ?_
      refine g_bipush K dX4_layTold_93 lb_50 ?_
      refine g_iconst K dX4_layTold_95 lc_3 ?_
      refine g_iload_n (i := 1) K hl dX4_layTold_96 rfl rfl ?_
      refine g_imul K dX4_layTold_97 ?_
      refine g_iadd K dX4_layTold_98 ?_
      refine g_aload_n (i := 0) K hl dX4_layTold_99 rfl rfl ?_
      refine mget_45 K dX4_layTold_100 ?_
      refine g_iload_n (i := 1) K hl dX4_layTold_103 rfl rfl ?_
      refine mld_45 K hF dX4_layTold_104 (fun t1 hF => ?_)
      refine mst_66 K hF ha rfl dX4_layTold_105 (fun σ2 hF ha => ?_)
      refine g_aload_n (i := 0) K hl dX4_layTold_106 rfl rfl ?_
      refine mget_66 K dX4_layTold_107 ?_
      refine g_bipush K dX4_layTold_110 lb_51 ?_
      refine g_iconst K dX4_layTold_112 lc_3 ?_
      refine g_iload_n (i := 1) K hl dX4_layTold_113 rfl rfl ?_
      refine g_imul K dX4_layTold_114 ?_
      refine g_iadd K dX4_layTold_115 ?_
      refine g_iconst K dX4_layTold_116 lc_0 ?_
      refine mst_66 K hF ha rfl dX4_layTold_117 (fun σ3 hF ha => ?_)
      refine g_aload_n (i := 0) K hl dX4_layTold_118 rfl rfl ?_
      refine mget_66 K dX4_layTold_119 ?_
      refine g_bipush K dX4_layTold_122 lb_52 ?_
      refine g_iconst K dX4_layTold_124 lc_3 ?_
      refine g_iload_n (i := 1) K hl dX4_layTold_125 rfl rfl ?_
      refine g_imul K dX4_layTold_126 ?_
      refine g_iadd K dX4_layTold_127 ?_
      refine g_iconst K dX4_layTold_128 lc_0 ?_
      refine mst_66 K hF ha rfl dX4_layTold_129 (fun σ4 hF ha => ?_)
      refine g_iinc (i := 1) K hl dX4_layTold_130 rfl lc_1 rfl rfl (fun ls hl => ?_)
      refine g_goto (tgt := 84) K dX4_layTold_133 (by decide) ?_
      exact hk84 _ _ ls hF ha (lq_sub hl rfl)
  have L84 : ∀  (n : Nat) (σ : MS) (x1 : Int32) (ls : Array Slot), M_layTold_L84 G  n σ x1 = some r → ag wr_layTold σ0 σ → lq ls 2 [(0, some (.ref qm)), (1, some (.int x1))] → ZM p l e 0 s m args below meth c D cz qm wr_layTold σ0 none r σ (F0 m 84 ls []) := by
    intro  n
    induction n with
    | zero => intro σ x1 ls hF; exact absurd hF (fun h => by cases h)
    | succ n ih => intro σ x1 ls hF ha hl; exact B84  _ ih _ _ ls hF ha hl
  have B2 : ∀ (k2 : MS → Int32 → Option MS) (hk2 : (∀ (σ : MS) (x1 : Int32) (ls : Array Slot), k2 σ x1 = some r → ag wr_layTold σ0 σ → lq ls 2 [(0, some (.ref qm)), (1, some (.int x1))] → ZM p l e 0 s m args below meth c D cz qm wr_layTold σ0 none r σ (F0 m 2 ls []))) (σ : MS) (x1 : Int32) (ls : Array Slot), M_layTold_B2 G k2 σ x1 = some r → ag wr_layTold σ0 σ → lq ls 2 [(0, some (.ref qm)), (1, some (.int x1))] → ZM p l e 0 s m args below meth c D cz qm wr_layTold σ0 none r σ (F0 m 2 ls []) := by
    intro k2 hk2 σ x1 ls hF ha hl
    unfold M_layTold_B2 at hF
    refine g_iload_n (i := 1) K hl dX4_layTold_2 rfl rfl ?_
    refine g_bipush K dX4_layTold_3 lb_10 ?_
    refine g_icmp_ge (tgt := 82) K hF dX4_layTold_5 (by decide) (fun hF => ?_) (fun hF => ?_)
    · refine g_iconst K dX4_layTold_82 lc_0 ?_
      refine g_istore_n (i := 1) K hl dX4_layTold_83 rfl rfl rfl (fun ls hl => ?_)
      exact L84  G _ _ ls hF ha (lq_sub hl rfl)
    · refine g_aload_n (i := 0) K hl dX4_layTold_8 rfl rfl ?_
      refine mget_66 K dX4_layTold_9 ?_
      refine g_iconst K dX4_layTold_12 lc_5 ?_
      refine g_iload_n (i := 1) K hl dX4_layTold_13 rfl rfl ?_
      refine g_imul K dX4_layTold_14 ?_
      refine g_aload_n (i := 0) K hl dX4_layTold_15 rfl rfl ?_
      refine mget_39 K dX4_layTold_16 ?_
      refine g_iload_n (i := 1) K hl dX4_layTold_19 rfl rfl ?_
      refine mld_39 K hF dX4_layTold_20 (fun t1 hF => ?_)
      refine mst_66 K hF ha rfl dX4_layTold_21 (fun σ2 hF ha => ?_)
      refine g_aload_n (i := 0) K hl dX4_layTold_22 rfl rfl ?_
      refine mget_66 K dX4_layTold_23 ?_
      refine g_iconst K dX4_layTold_26 lc_5 ?_
      refine g_iload_n (i := 1) K hl dX4_layTold_27 rfl rfl ?_
      refine g_imul K dX4_layTold_28 ?_
      refine g_iconst K dX4_layTold_29 lc_1 ?_
      refine g_iadd K dX4_layTold_30 ?_
      refine g_aload_n (i := 0) K hl dX4_layTold_31 rfl rfl ?_
      refine mget_40 K dX4_layTold_32 ?_
      refine g_iload_n (i := 1) K hl dX4_layTold_35 rfl rfl ?_
      refine mld_40 K hF dX4_layTold_36 (fun t3 hF => ?_)
      refine mst_66 K hF ha rfl dX4_layTold_37 (fun σ4 hF ha => ?_)
      refine g_aload_n (i := 0) K hl dX4_layTold_38 rfl rfl ?_
      refine mget_66 K dX4_layTold_39 ?_
      refine g_iconst K dX4_layTold_42 lc_5 ?_
      refine g_iload_n (i := 1) K hl dX4_layTold_43 rfl rfl ?_
      refine g_imul K dX4_layTold_44 ?_
      refine g_iconst K dX4_layTold_45 lc_2 ?_
      refine g_iadd K dX4_layTold_46 ?_
      refine g_iconst K dX4_layTold_47 lc_m1 ?_
      refine mst_66 K hF ha rfl dX4_layTold_48 (fun σ5 hF ha => ?_)
      refine g_aload_n (i := 0) K hl dX4_layTold_49 rfl rfl ?_
      refine mget_66 K dX4_layTold_50 ?_
      refine g_iconst K dX4_layTold_53 lc_5 ?_
      refine g_iload_n (i := 1) K hl dX4_layTold_54 rfl rfl ?_
      refine g_imul K dX4_layTold_55 ?_
      refine g_iconst K dX4_layTold_56 lc_3 ?_
      refine g_iadd K dX4_layTold_57 ?_
      refine g_iconst K dX4_layTold_58 lc_0 ?_
      refine mst_66 K hF ha rfl dX4_layTold_59 (fun σ6 hF ha => ?_)
      refine g_aload_n (i := 0) K hl dX4_layTold_60 rfl rfl ?_
      refine mget_66 K dX4_layTold_61 ?_
      refine g_iconst K dX4_layTold_64 lc_5 ?_
      refine g_iload_n (i := 1) K hl dX4_layTold_65 rfl rfl ?_
      refine g_imul K dX4_layTold_66 ?_
      refine g_iconst K dX4_layTold_67 lc_4 ?_
      refine g_iadd K dX4_layTold_68 ?_
      refine g_aload_n (i := 0) K hl dX4_layTold_69 rfl rfl ?_
      refine mget_37 K dX4_layTold_70 ?_
      refine g_iload_n (i := 1) K hl dX4_layTold_73 rfl rfl ?_
      refine mld_37 K hF dX4_layTold_74 (fun t7 hF => ?_)
      refine mst_66 K hF ha rfl dX4_layTold_75 (fun σ8 hF ha => ?_)
      refine g_iinc (i := 1) K hl dX4_layTold_76 rfl lc_1 rfl rfl (fun ls hl => ?_)
      refine g_goto (tgt := 2) K dX4_layTold_79 (by decide) ?_
      exact hk2 _ _ ls hF ha (lq_sub hl rfl)
  have L2 : ∀  (n : Nat) (σ : MS) (x1 : Int32) (ls : Array Slot), M_layTold_L2 G  n σ x1 = some r → ag wr_layTold σ0 σ → lq ls 2 [(0, some (.ref qm)), (1, some (.int x1))] → ZM p l e 0 s m args below meth c D cz qm wr_layTold σ0 none r σ (F0 m 2 ls []) := by
    intro  n
    induction n with
    | zero => intro σ x1 ls hF; exact absurd hF (fun h => by cases h)
    | succ n ih => intro σ x1 ls hF ha hl; exact B2  _ ih _ _ ls hF ha hl
  have ha : ag wr_layTold σ0 σ0 := ag.rf
  unfold M_layTold at hF
  refine g_iconst K dX4_layTold_0 lc_0 ?_
  refine g_istore_n (i := 1) K hl dX4_layTold_1 rfl rfl rfl (fun ls hl => ?_)
  exact L2  G _ _ ls hF ha (lq_sub hl rfl)

theorem cp_tub : cpV yX4_tub cX4_tub 3 (some .int) 0 := ⟨q1807, q1808, q152, q1809, by decide +kernel⟩
set_option maxHeartbeats 4000000 in
set_option maxRecDepth 100000 in
theorem w_tub {l : Launch} {D : va_G} {cz : Nat → ClassId} {qm : Nat} (G : Nat) (σ0 : MS)  (r : (Int32 × MS)) (hF : M_tub G σ0 = some r) : mMet l D cz qm yX4_tub cX4_tub 3 (some .int) 8 wr_tub [.ref qm] σ0 (some (.int r.1)) r.2 := by
  refine m_of (by decide) rfl ?_
  intro p e s m args below meth c ls K hl
  have B389 : ∀ (k389 : MS → Int32 → Option (Int32 × MS)) (hk389 : (∀ (σ : MS) (x1 : Int32) (ls : Array Slot), k389 σ x1 = some r → ag wr_tub σ0 σ → lq ls 3 [(0, some (.ref qm)), (1, some (.int x1))] → ZM p l e 8 s m args below meth c D cz qm wr_tub σ0 (some (.int r.1)) r.2 σ (F0 m 389 ls []))) (σ : MS) (x1 : Int32) (ls : Array Slot), M_tub_B389 G k389 σ x1 = some r → ag wr_tub σ0 σ → lq ls 3 [(0, some (.ref qm)), (1, some (.int x1))] → ZM p l e 8 s m args below meth c D cz qm wr_tub σ0 (some (.int r.1)) r.2 σ (F0 m 389 ls []) := by
    intro k389 hk389 σ x1 ls hF ha hl
    unfold M_tub_B389 at hF
    refine g_iload_n (i := 1) K hl dX4_tub_389 rfl rfl ?_
    refine g_iconst K dX4_tub_390 lc_3 ?_
    refine g_icmp_ge (tgt := 407) K hF dX4_tub_391 (by decide) (fun hF => ?_) (fun hF => ?_)
    · refine g_aload_n (i := 0) K hl dX4_tub_407 rfl rfl ?_
      refine mget_60 K dX4_tub_408 ?_
      exact m_iretW K hF ha dX4_tub_411
    · refine g_aload_n (i := 0) K hl dX4_tub_394 rfl rfl ?_
      refine mget_93 K dX4_tub_395 ?_
      refine g_iload_n (i := 1) K hl dX4_tub_398 rfl rfl ?_
      refine g_iconst K dX4_tub_399 lc_0 ?_
      refine mst_93 K hF (Or.inl rfl) ha rfl dX4_tub_400 (fun σ1 hF ha => ?_)
      refine g_iinc (i := 1) K hl dX4_tub_401 rfl lc_1 rfl rfl (fun ls hl => ?_)
      refine g_goto (tgt := 389) K dX4_tub_404 (by decide) ?_
      exact hk389 _ _ ls hF ha (lq_sub hl rfl)
  have L389 : ∀  (n : Nat) (σ : MS) (x1 : Int32) (ls : Array Slot), M_tub_L389 G  n σ x1 = some r → ag wr_tub σ0 σ → lq ls 3 [(0, some (.ref qm)), (1, some (.int x1))] → ZM p l e 8 s m args below meth c D cz qm wr_tub σ0 (some (.int r.1)) r.2 σ (F0 m 389 ls []) := by
    intro  n
    induction n with
    | zero => intro σ x1 ls hF; exact absurd hF (fun h => by cases h)
    | succ n ih => intro σ x1 ls hF ha hl; exact B389  _ ih _ _ ls hF ha hl
  have B344 : ∀ (k344 : MS → Int32 → Option (Int32 × MS)) (hk344 : (∀ (σ : MS) (x1 : Int32) (ls : Array Slot), k344 σ x1 = some r → ag wr_tub σ0 σ → lq ls 3 [(0, some (.ref qm)), (1, some (.int x1))] → ZM p l e 8 s m args below meth c D cz qm wr_tub σ0 (some (.int r.1)) r.2 σ (F0 m 344 ls []))) (σ : MS) (x1 : Int32) (ls : Array Slot), M_tub_B344 G k344 σ x1 = some r → ag wr_tub σ0 σ → lq ls 3 [(0, some (.ref qm)), (1, some (.int x1))] → ZM p l e 8 s m args below meth c D cz qm wr_tub σ0 (some (.int r.1)) r.2 σ (F0 m 344 ls []) := by
    intro k344 hk344 σ x1 ls hF ha hl
    unfold M_tub_B344 at hF
    refine g_iload_n (i := 1) K hl dX4_tub_344 rfl rfl ?_
    refine g_bipush K dX4_tub_345 lb_123 ?_
    refine g_icmp_ge (tgt := 363) K hF dX4_tub_347 (by decide) (fun hF => ?_) (fun hF => ?_)
    · refine g_aload_n (i := 0) K hl dX4_tub_363 rfl rfl ?_
      refine m_callVV K hl hF ha rfl (fun t h => w_keep G _  t h) rfl cp_keep q1992 rfl rfl rfl rfl rfl dX4_tub_364 (fun σ1 hF ha => ?_)
      refine g_aload_n (i := 0) K hl dX4_tub_367 rfl rfl ?_
      refine g_iconst K dX4_tub_368 lc_0 ?_
      refine mput_71 K hF ha rfl dX4_tub_369 (fun σ2 hF ha => ?_)
      refine g_aload_n (i := 0) K hl dX4_tub_372 rfl rfl ?_
      refine g_iconst K dX4_tub_373 lc_0 ?_
      refine mput_72 K hF ha rfl dX4_tub_374 (fun σ3 hF ha => ?_)
      refine g_aload_n (i := 0) K hl dX4_tub_377 rfl rfl ?_
      refine g_iconst K dX4_tub_378 lc_0 ?_
      refine mput_91 K hF ha rfl dX4_tub_379 (fun σ4 hF ha => ?_)
      refine g_aload_n (i := 0) K hl dX4_tub_382 rfl rfl ?_
      refine g_iconst K dX4_tub_383 lc_0 ?_
      refine mput_85 K hF ha rfl dX4_tub_384 (fun σ5 hF ha => ?_)
      refine g_iconst K dX4_tub_387 lc_0 ?_
      refine g_istore_n (i := 1) K hl dX4_tub_388 rfl rfl rfl (fun ls hl => ?_)
      exact L389  G _ _ ls hF ha (lq_sub hl rfl)
    · refine g_aload_n (i := 0) K hl dX4_tub_350 rfl rfl ?_
      refine mget_66 K dX4_tub_351 ?_
      refine g_iload_n (i := 1) K hl dX4_tub_354 rfl rfl ?_
      refine g_iconst K dX4_tub_355 lc_0 ?_
      refine mst_66 K hF ha rfl dX4_tub_356 (fun σ6 hF ha => ?_)
      refine g_iinc (i := 1) K hl dX4_tub_357 rfl lc_1 rfl rfl (fun ls hl => ?_)
      refine g_goto (tgt := 344) K dX4_tub_360 (by decide) ?_
      exact hk344 _ _ ls hF ha (lq_sub hl rfl)
  have L344 : ∀  (n : Nat) (σ : MS) (x1 : Int32) (ls : Array Slot), M_tub_L344 G  n σ x1 = some r → ag wr_tub σ0 σ → lq ls 3 [(0, some (.ref qm)), (1, some (.int x1))] → ZM p l e 8 s m args below meth c D cz qm wr_tub σ0 (some (.int r.1)) r.2 σ (F0 m 344 ls []) := by
    intro  n
    induction n with
    | zero => intro σ x1 ls hF; exact absurd hF (fun h => by cases h)
    | succ n ih => intro σ x1 ls hF ha hl; exact B344  _ ih _ _ ls hF ha hl
  have B243 : ∀ (k243 : MS → Int32 → Option (Int32 × MS)) (hk243 : (∀ (σ : MS) (x1 : Int32) (ls : Array Slot), k243 σ x1 = some r → ag wr_tub σ0 σ → lq ls 3 [(0, some (.ref qm)), (1, some (.int x1))] → ZM p l e 8 s m args below meth c D cz qm wr_tub σ0 (some (.int r.1)) r.2 σ (F0 m 243 ls []))) (σ : MS) (x1 : Int32) (ls : Array Slot), M_tub_B243 G k243 σ x1 = some r → ag wr_tub σ0 σ → lq ls 3 [(0, some (.ref qm)), (1, some (.int x1))] → ZM p l e 8 s m args below meth c D cz qm wr_tub σ0 (some (.int r.1)) r.2 σ (F0 m 243 ls []) := by
    intro k243 hk243 σ x1 ls hF ha hl
    unfold M_tub_B243 at hF
    refine g_iload_n (i := 1) K hl dX4_tub_243 rfl rfl ?_
    refine g_iconst K dX4_tub_244 lc_4 ?_
    refine g_icmp_ge (tgt := 326) K hF dX4_tub_245 (by decide) (fun hF => ?_) (fun hF => ?_)
    · refine g_aload_n (i := 0) K hl dX4_tub_326 rfl rfl ?_
      refine m_callVV K hl hF ha rfl (fun t h => w_layTold G _  t h) rfl cp_layTold q1988 rfl rfl rfl rfl rfl dX4_tub_327 (fun σ1 hF ha => ?_)
      refine g_aload_n (i := 0) K hl dX4_tub_330 rfl rfl ?_
      refine mget_66 K dX4_tub_331 ?_
      refine g_bipush K dX4_tub_334 lb_62 ?_
      refine g_aload_n (i := 0) K hl dX4_tub_336 rfl rfl ?_
      refine mget_55 K dX4_tub_337 ?_
      refine mst_66 K hF ha rfl dX4_tub_340 (fun σ2 hF ha => ?_)
      refine g_bipush K dX4_tub_341 lb_63 ?_
      refine g_istore_n (i := 1) K hl dX4_tub_343 rfl rfl rfl (fun ls hl => ?_)
      exact L344  G _ _ ls hF ha (lq_sub hl rfl)
    · refine g_aload_n (i := 0) K hl dX4_tub_248 rfl rfl ?_
      refine mget_42 K dX4_tub_249 ?_
      refine g_iload_n (i := 1) K hl dX4_tub_252 rfl rfl ?_
      refine g_aload_n (i := 0) K hl dX4_tub_253 rfl rfl ?_
      refine mget_30 K dX4_tub_254 ?_
      refine g_iload_n (i := 1) K hl dX4_tub_257 rfl rfl ?_
      refine mld_30 K hF dX4_tub_258 (fun t3 hF => ?_)
      refine mst_42 K hF ha rfl dX4_tub_259 (fun σ4 hF ha => ?_)
      refine g_aload_n (i := 0) K hl dX4_tub_260 rfl rfl ?_
      refine mget_43 K dX4_tub_261 ?_
      refine g_iload_n (i := 1) K hl dX4_tub_264 rfl rfl ?_
      refine g_aload_n (i := 0) K hl dX4_tub_265 rfl rfl ?_
      refine mget_31 K dX4_tub_266 ?_
      refine g_iload_n (i := 1) K hl dX4_tub_269 rfl rfl ?_
      refine mld_31 K hF dX4_tub_270 (fun t5 hF => ?_)
      refine mst_43 K hF ha rfl dX4_tub_271 (fun σ6 hF ha => ?_)
      refine g_aload_n (i := 0) K hl dX4_tub_272 rfl rfl ?_
      refine mget_44 K dX4_tub_273 ?_
      refine g_iload_n (i := 1) K hl dX4_tub_276 rfl rfl ?_
      refine g_aload_n (i := 0) K hl dX4_tub_277 rfl rfl ?_
      refine mget_32 K dX4_tub_278 ?_
      refine g_iload_n (i := 1) K hl dX4_tub_281 rfl rfl ?_
      refine mld_32 K hF dX4_tub_282 (fun t7 hF => ?_)
      refine mst_44 K hF ha rfl dX4_tub_283 (fun σ8 hF ha => ?_)
      refine g_aload_n (i := 0) K hl dX4_tub_284 rfl rfl ?_
      refine mget_45 K dX4_tub_285 ?_
      refine g_iload_n (i := 1) K hl dX4_tub_288 rfl rfl ?_
      refine g_aload_n (i := 0) K hl dX4_tub_289 rfl rfl ?_
      refine mget_33 K dX4_tub_290 ?_
      refine g_iload_n (i := 1) K hl dX4_tub_293 rfl rfl ?_
      refine mld_33 K hF dX4_tub_294 (fun t9 hF => ?_)
      refine mst_45 K hF ha rfl dX4_tub_295 (fun σ10 hF ha => ?_)
      refine g_aload_n (i := 0) K hl dX4_tub_296 rfl rfl ?_
      refine mget_46 K dX4_tub_297 ?_
      refine g_iload_n (i := 1) K hl dX4_tub_300 rfl rfl ?_
      refine g_aload_n (i := 0) K hl dX4_tub_301 rfl rfl ?_
      refine mget_34 K dX4_tub_302 ?_
      refine g_iload_n (i := 1) K hl dX4_tub_305 rfl rfl ?_
      refine mld_34 K hF dX4_tub_306 (fun t11 hF => ?_)
      refine mst_46 K hF ha rfl dX4_tub_307 (fun σ12 hF ha => ?_)
      refine g_aload_n (i := 0) K hl dX4_tub_308 rfl rfl ?_
      refine mget_47 K dX4_tub_309 ?_
      refine g_iload_n (i := 1) K hl dX4_tub_312 rfl rfl ?_
      refine g_aload_n (i := 0) K hl dX4_tub_313 rfl rfl ?_
      refine mget_35 K dX4_tub_314 ?_
      refine g_iload_n (i := 1) K hl dX4_tub_317 rfl rfl ?_
      refine mld_35 K hF dX4_tub_318 (fun t13 hF => ?_)
      refine mst_47 K hF ha rfl dX4_tub_319 (fun σ14 hF ha => ?_)
      refine g_iinc (i := 1) K hl dX4_tub_320 rfl lc_1 rfl rfl (fun ls hl => ?_)
      refine g_goto (tgt := 243) K dX4_tub_323 (by decide) ?_
      exact hk243 _ _ ls hF ha (lq_sub hl rfl)
  have L243 : ∀  (n : Nat) (σ : MS) (x1 : Int32) (ls : Array Slot), M_tub_L243 G  n σ x1 = some r → ag wr_tub σ0 σ → lq ls 3 [(0, some (.ref qm)), (1, some (.int x1))] → ZM p l e 8 s m args below meth c D cz qm wr_tub σ0 (some (.int r.1)) r.2 σ (F0 m 243 ls []) := by
    intro  n
    induction n with
    | zero => intro σ x1 ls hF; exact absurd hF (fun h => by cases h)
    | succ n ih => intro σ x1 ls hF ha hl; exact B243  _ ih _ _ ls hF ha hl
  have B157 : ∀ (k157 : MS → Int32 → Option (Int32 × MS)) (hk157 : (∀ (σ : MS) (x1 : Int32) (ls : Array Slot), k157 σ x1 = some r → ag wr_tub σ0 σ → lq ls 3 [(0, some (.ref qm)), (1, some (.int x1))] → ZM p l e 8 s m args below meth c D cz qm wr_tub σ0 (some (.int r.1)) r.2 σ (F0 m 157 ls []))) (σ : MS) (x1 : Int32) (ls : Array Slot), M_tub_B157 G k157 σ x1 = some r → ag wr_tub σ0 σ → lq ls 3 [(0, some (.ref qm)), (1, some (.int x1))] → ZM p l e 8 s m args below meth c D cz qm wr_tub σ0 (some (.int r.1)) r.2 σ (F0 m 157 ls []) := by
    intro k157 hk157 σ x1 ls hF ha hl
    unfold M_tub_B157 at hF
    refine g_iload_n (i := 1) K hl dX4_tub_157 rfl rfl ?_
    refine g_bipush K dX4_tub_158 lb_10 ?_
    refine g_icmp_ge (tgt := 241) K hF dX4_tub_160 (by decide) (fun hF => ?_) (fun hF => ?_)
    · refine g_iconst K dX4_tub_241 lc_0 ?_
      refine g_istore_n (i := 1) K hl dX4_tub_242 rfl rfl rfl (fun ls hl => ?_)
      exact L243  G _ _ ls hF ha (lq_sub hl rfl)
    · refine g_aload_n (i := 0) K hl dX4_tub_163 rfl rfl ?_
      refine mget_37 K dX4_tub_164 ?_
      refine g_iload_n (i := 1) K hl dX4_tub_167 rfl rfl ?_
      refine g_aload_n (i := 0) K hl dX4_tub_168 rfl rfl ?_
      refine mget_25 K dX4_tub_169 ?_
      refine g_iload_n (i := 1) K hl dX4_tub_172 rfl rfl ?_
      refine mld_25 K hF dX4_tub_173 (fun t1 hF => ?_)
      refine mst_37 K hF ha rfl dX4_tub_174 (fun σ2 hF ha => ?_)
      refine g_aload_n (i := 0) K hl dX4_tub_175 rfl rfl ?_
      refine mget_38 K dX4_tub_176 ?_
      refine g_iload_n (i := 1) K hl dX4_tub_179 rfl rfl ?_
      refine g_aload_n (i := 0) K hl dX4_tub_180 rfl rfl ?_
      refine mget_26 K dX4_tub_181 ?_
      refine g_iload_n (i := 1) K hl dX4_tub_184 rfl rfl ?_
      refine mld_26 K hF dX4_tub_185 (fun t3 hF => ?_)
      refine mst_38 K hF ha rfl dX4_tub_186 (fun σ4 hF ha => ?_)
      refine g_aload_n (i := 0) K hl dX4_tub_187 rfl rfl ?_
      refine mget_39 K dX4_tub_188 ?_
      refine g_iload_n (i := 1) K hl dX4_tub_191 rfl rfl ?_
      refine g_aload_n (i := 0) K hl dX4_tub_192 rfl rfl ?_
      refine mget_27 K dX4_tub_193 ?_
      refine g_iload_n (i := 1) K hl dX4_tub_196 rfl rfl ?_
      refine mld_27 K hF dX4_tub_197 (fun t5 hF => ?_)
      refine mst_39 K hF ha rfl dX4_tub_198 (fun σ6 hF ha => ?_)
      refine g_aload_n (i := 0) K hl dX4_tub_199 rfl rfl ?_
      refine mget_40 K dX4_tub_200 ?_
      refine g_iload_n (i := 1) K hl dX4_tub_203 rfl rfl ?_
      refine g_aload_n (i := 0) K hl dX4_tub_204 rfl rfl ?_
      refine mget_28 K dX4_tub_205 ?_
      refine g_iload_n (i := 1) K hl dX4_tub_208 rfl rfl ?_
      refine mld_28 K hF dX4_tub_209 (fun t7 hF => ?_)
      refine mst_40 K hF ha rfl dX4_tub_210 (fun σ8 hF ha => ?_)
      refine g_aload_n (i := 0) K hl dX4_tub_211 rfl rfl ?_
      refine mget_41 K dX4_tub_212 ?_
      refine g_iload_n (i := 1) K hl dX4_tub_215 rfl rfl ?_
      refine g_aload_n (i := 0) K hl dX4_tub_216 rfl rfl ?_
      refine mget_29 K dX4_tub_217 ?_
      refine g_iload_n (i := 1) K hl dX4_tub_220 rfl rfl ?_
      refine mld_29 K hF dX4_tub_221 (fun t9 hF => ?_)
      refine mst_41 K hF ha rfl dX4_tub_222 (fun σ10 hF ha => ?_)
      refine g_aload_n (i := 0) K hl dX4_tub_223 rfl rfl ?_
      refine mget_48 K dX4_tub_224 ?_
      refine g_iload_n (i := 1) K hl dX4_tub_227 rfl rfl ?_
      refine g_aload_n (i := 0) K hl dX4_tub_228 rfl rfl ?_
      refine mget_36 K dX4_tub_229 ?_
      refine g_iload_n (i := 1) K hl dX4_tub_232 rfl rfl ?_
      refine mld_36 K hF dX4_tub_233 (fun t11 hF => ?_)
      obtain ⟨hz, hF⟩ := bzI_i hF
      refine mst_48 K hF hz ha rfl dX4_tub_234 (fun σ12 hF ha => ?_)
      refine g_iinc (i := 1) K hl dX4_tub_235 rfl lc_1 rfl rfl (fun ls hl => ?_)
      refine g_goto (tgt := 157) K dX4_tub_238 (by decide) ?_
      exact hk157 _ _ ls hF ha (lq_sub hl rfl)
  have L157 : ∀  (n : Nat) (σ : MS) (x1 : Int32) (ls : Array Slot), M_tub_L157 G  n σ x1 = some r → ag wr_tub σ0 σ → lq ls 3 [(0, some (.ref qm)), (1, some (.int x1))] → ZM p l e 8 s m args below meth c D cz qm wr_tub σ0 (some (.int r.1)) r.2 σ (F0 m 157 ls []) := by
    intro  n
    induction n with
    | zero => intro σ x1 ls hF; exact absurd hF (fun h => by cases h)
    | succ n ih => intro σ x1 ls hF ha hl; exact B157  _ ih _ _ ls hF ha hl
  have B103 : ∀ (k79 : MS → Int32 → Option (Int32 × MS)) (hk79 : (∀ (σ : MS) (x1 : Int32) (ls : Array Slot), k79 σ x1 = some r → ag wr_tub σ0 σ → lq ls 3 [(0, some (.ref qm)), (1, some (.int x1))] → ZM p l e 8 s m args below meth c D cz qm wr_tub σ0 (some (.int r.1)) r.2 σ (F0 m 79 ls []))) (k103 : MS → Int32 → Int32 → Option (Int32 × MS)) (hk103 : (∀ (σ : MS) (x1 : Int32) (x2 : Int32) (ls : Array Slot), k103 σ x1 x2 = some r → ag wr_tub σ0 σ → lq ls 3 [(0, some (.ref qm)), (1, some (.int x1)), (2, some (.int x2))] → ZM p l e 8 s m args below meth c D cz qm wr_tub σ0 (some (.int r.1)) r.2 σ (F0 m 103 ls []))) (σ : MS) (x1 : Int32) (x2 : Int32) (ls : Array Slot), M_tub_B103 G k79 k103 σ x1 x2 = some r → ag wr_tub σ0 σ → lq ls 3 [(0, some (.ref qm)), (1, some (.int x1)), (2, some (.int x2))] → ZM p l e 8 s m args below meth c D cz qm wr_tub σ0 (some (.int r.1)) r.2 σ (F0 m 103 ls []) := by
    intro k79 hk79 k103 hk103 σ x1 x2 ls hF ha hl
    unfold M_tub_B103 at hF
    refine g_iload_n (i := 2) K hl dX4_tub_103 rfl rfl ?_
    refine g_sipush K dX4_tub_104 ls_320 ?_
    refine g_iload_n (i := 1) K hl dX4_tub_107 rfl rfl ?_
    refine g_imul K dX4_tub_108 ?_
    refine g_aload_n (i := 0) K hl dX4_tub_109 rfl rfl ?_
    refine mget_15 K dX4_tub_110 ?_
    refine g_iload_n (i := 1) K hl dX4_tub_113 rfl rfl ?_
    refine mld_15 K hF dX4_tub_114 (fun t1 hF => ?_)
    refine g_iadd K dX4_tub_115 ?_
    refine g_icmp_ge (tgt := 149) K hF dX4_tub_116 (by decide) (fun hF => ?_) (fun hF => ?_)
    · refine g_iinc (i := 1) K hl dX4_tub_149 rfl lc_1 rfl rfl (fun ls hl => ?_)
      refine g_goto (tgt := 79) K dX4_tub_152 (by decide) ?_
      exact hk79 _ _ ls hF ha (lq_sub hl rfl)
    · refine g_aload_n (i := 0) K hl dX4_tub_119 rfl rfl ?_
      refine mget_13 K dX4_tub_120 ?_
      refine g_iload_n (i := 2) K hl dX4_tub_123 rfl rfl ?_
      refine g_aload_n (i := 0) K hl dX4_tub_124 rfl rfl ?_
      refine mget_10 K dX4_tub_125 ?_
      refine g_iload_n (i := 2) K hl dX4_tub_128 rfl rfl ?_
      refine mld_10 K hF dX4_tub_129 (fun t2 hF => ?_)
      refine mst_13 K hF ha rfl dX4_tub_130 (fun σ3 hF ha => ?_)
      refine g_aload_n (i := 0) K hl dX4_tub_131 rfl rfl ?_
      refine mget_14 K dX4_tub_132 ?_
      refine g_iload_n (i := 2) K hl dX4_tub_135 rfl rfl ?_
      refine g_aload_n (i := 0) K hl dX4_tub_136 rfl rfl ?_
      refine mget_11 K dX4_tub_137 ?_
      refine g_iload_n (i := 2) K hl dX4_tub_140 rfl rfl ?_
      refine mld_11 K hF dX4_tub_141 (fun t4 hF => ?_)
      refine mst_14 K hF ha rfl dX4_tub_142 (fun σ5 hF ha => ?_)
      refine g_iinc (i := 2) K hl dX4_tub_143 rfl lc_1 rfl rfl (fun ls hl => ?_)
      refine g_goto (tgt := 103) K dX4_tub_146 (by decide) ?_
      exact hk103 _ _ _ ls hF ha (lq_sub hl rfl)
  have L103 : ∀ (k79 : MS → Int32 → Option (Int32 × MS)) (hk79 : (∀ (σ : MS) (x1 : Int32) (ls : Array Slot), k79 σ x1 = some r → ag wr_tub σ0 σ → lq ls 3 [(0, some (.ref qm)), (1, some (.int x1))] → ZM p l e 8 s m args below meth c D cz qm wr_tub σ0 (some (.int r.1)) r.2 σ (F0 m 79 ls []))) (n : Nat) (σ : MS) (x1 : Int32) (x2 : Int32) (ls : Array Slot), M_tub_L103 G k79 n σ x1 x2 = some r → ag wr_tub σ0 σ → lq ls 3 [(0, some (.ref qm)), (1, some (.int x1)), (2, some (.int x2))] → ZM p l e 8 s m args below meth c D cz qm wr_tub σ0 (some (.int r.1)) r.2 σ (F0 m 103 ls []) := by
    intro k79 hk79 n
    induction n with
    | zero => intro σ x1 x2 ls hF; exact absurd hF (fun h => by cases h)
    | succ n ih => intro σ x1 x2 ls hF ha hl; exact B103 k79 hk79 _ ih _ _ _ ls hF ha hl
  have B79 : ∀ (k79 : MS → Int32 → Option (Int32 × MS)) (hk79 : (∀ (σ : MS) (x1 : Int32) (ls : Array Slot), k79 σ x1 = some r → ag wr_tub σ0 σ → lq ls 3 [(0, some (.ref qm)), (1, some (.int x1))] → ZM p l e 8 s m args below meth c D cz qm wr_tub σ0 (some (.int r.1)) r.2 σ (F0 m 79 ls []))) (σ : MS) (x1 : Int32) (ls : Array Slot), M_tub_B79 G k79 σ x1 = some r → ag wr_tub σ0 σ → lq ls 3 [(0, some (.ref qm)), (1, some (.int x1))] → ZM p l e 8 s m args below meth c D cz qm wr_tub σ0 (some (.int r.1)) r.2 σ (F0 m 79 ls []) := by
    intro k79 hk79 σ x1 ls hF ha hl
    unfold M_tub_B79 at hF
    refine g_iload_n (i := 1) K hl dX4_tub_79 rfl rfl ?_
    refine g_bipush K dX4_tub_80 lb_11 ?_
    refine g_icmp_ge (tgt := 155) K hF dX4_tub_82 (by decide) (fun hF => ?_) (fun hF => ?_)
    · refine g_iconst K dX4_tub_155 lc_0 ?_
      refine g_istore_n (i := 1) K hl dX4_tub_156 rfl rfl rfl (fun ls hl => ?_)
      exact L157  G _ _ ls hF ha (lq_sub hl rfl)
    · refine g_aload_n (i := 0) K hl dX4_tub_85 rfl rfl ?_
      refine mget_15 K dX4_tub_86 ?_
      refine g_iload_n (i := 1) K hl dX4_tub_89 rfl rfl ?_
      refine g_aload_n (i := 0) K hl dX4_tub_90 rfl rfl ?_
      refine mget_12 K dX4_tub_91 ?_
      refine g_iload_n (i := 1) K hl dX4_tub_94 rfl rfl ?_
      refine mld_12 K hF dX4_tub_95 (fun t1 hF => ?_)
      refine mst_15 K hF ha rfl dX4_tub_96 (fun σ2 hF ha => ?_)
      refine g_sipush K dX4_tub_97 ls_320 ?_
      refine g_iload_n (i := 1) K hl dX4_tub_100 rfl rfl ?_
      refine g_imul K dX4_tub_101 ?_
      refine g_istore_n (i := 2) K hl dX4_tub_102 rfl rfl rfl (fun ls hl => ?_)
      exact L103 k79 hk79 G _ _ _ ls hF ha (lq_sub hl rfl)
  have L79 : ∀  (n : Nat) (σ : MS) (x1 : Int32) (ls : Array Slot), M_tub_L79 G  n σ x1 = some r → ag wr_tub σ0 σ → lq ls 3 [(0, some (.ref qm)), (1, some (.int x1))] → ZM p l e 8 s m args below meth c D cz qm wr_tub σ0 (some (.int r.1)) r.2 σ (F0 m 79 ls []) := by
    intro  n
    induction n with
    | zero => intro σ x1 ls hF; exact absurd hF (fun h => by cases h)
    | succ n ih => intro σ x1 ls hF ha hl; exact B79  _ ih _ _ ls hF ha hl
  have ha : ag wr_tub σ0 σ0 := ag.rf
  unfold M_tub at hF
  refine g_aload_n (i := 0) K hl dX4_tub_0 rfl rfl ?_
  refine m_callVV K hl hF ha rfl (fun t h => w_readAll G _  t h) rfl cp_readAll q1810 rfl rfl rfl rfl rfl dX4_tub_1 (fun σ1 hF ha => ?_)
  refine g_aload_n (i := 0) K hl dX4_tub_4 rfl rfl ?_
  refine mget_2 K dX4_tub_5 ?_
  refine g_if_le (tgt := 13) K hF dX4_tub_8 (by decide) (fun hF => ?_) (fun hF => ?_)
  · refine g_aload_n (i := 0) K hl dX4_tub_13 rfl rfl ?_
    refine g_aload_n (i := 0) K hl dX4_tub_14 rfl rfl ?_
    refine mget_49 K dX4_tub_15 ?_
    refine mput_56 K hF ha rfl dX4_tub_18 (fun σ2 hF ha => ?_)
    refine g_aload_n (i := 0) K hl dX4_tub_21 rfl rfl ?_
    refine g_aload_n (i := 0) K hl dX4_tub_22 rfl rfl ?_
    refine mget_50 K dX4_tub_23 ?_
    refine mput_57 K hF ha rfl dX4_tub_26 (fun σ3 hF ha => ?_)
    refine g_aload_n (i := 0) K hl dX4_tub_29 rfl rfl ?_
    refine g_aload_n (i := 0) K hl dX4_tub_30 rfl rfl ?_
    refine mget_51 K dX4_tub_31 ?_
    refine mput_58 K hF ha rfl dX4_tub_34 (fun σ4 hF ha => ?_)
    refine g_aload_n (i := 0) K hl dX4_tub_37 rfl rfl ?_
    refine g_aload_n (i := 0) K hl dX4_tub_38 rfl rfl ?_
    refine mget_52 K dX4_tub_39 ?_
    refine mput_59 K hF ha rfl dX4_tub_42 (fun σ5 hF ha => ?_)
    refine g_aload_n (i := 0) K hl dX4_tub_45 rfl rfl ?_
    refine g_aload_n (i := 0) K hl dX4_tub_46 rfl rfl ?_
    refine mget_53 K dX4_tub_47 ?_
    refine mput_60 K hF ha rfl dX4_tub_50 (fun σ6 hF ha => ?_)
    refine g_aload_n (i := 0) K hl dX4_tub_53 rfl rfl ?_
    refine g_aload_n (i := 0) K hl dX4_tub_54 rfl rfl ?_
    refine mget_54 K dX4_tub_55 ?_
    refine mput_61 K hF ha rfl dX4_tub_58 (fun σ7 hF ha => ?_)
    refine g_aload_n (i := 0) K hl dX4_tub_61 rfl rfl ?_
    refine g_aload_n (i := 0) K hl dX4_tub_62 rfl rfl ?_
    refine mget_64 K dX4_tub_63 ?_
    refine mput_65 K hF ha rfl dX4_tub_66 (fun σ8 hF ha => ?_)
    refine g_aload_n (i := 0) K hl dX4_tub_69 rfl rfl ?_
    refine g_aload_n (i := 0) K hl dX4_tub_70 rfl rfl ?_
    refine mget_20 K dX4_tub_71 ?_
    refine mput_21 K hF ha rfl dX4_tub_74 (fun σ9 hF ha => ?_)
    refine g_iconst K dX4_tub_77 lc_0 ?_
    refine g_istore_n (i := 1) K hl dX4_tub_78 rfl rfl rfl (fun ls hl => ?_)
    exact L79  G _ _ ls hF ha (lq_sub hl rfl)
  · refine g_iconst K dX4_tub_11 lc_m1 ?_
    exact m_iretW K hF ha dX4_tub_12

theorem cp_fault : cpV yX4_fault cX4_fault 2 (some .int) 1 := ⟨q1997, q1998, q152, q1999, by decide +kernel⟩
set_option maxHeartbeats 4000000 in
set_option maxRecDepth 100000 in
theorem w_fault {l : Launch} {D : va_G} {cz : Nat → ClassId} {qm : Nat} (σ0 : MS) (a0 : Int32) (r : Int32) (hF : M_fault σ0 a0 = some r) : mMet l D cz qm yX4_fault cX4_fault 2 (some .int) 0 wr_fault [.ref qm, .int a0] σ0 (some (.int r)) σ0 := by
  refine m_of (by decide) rfl ?_
  intro p e s m args below meth c ls K hl
  unfold M_fault at hF
  refine g_iload_n (i := 1) K hl dX4_fault_0 rfl rfl ?_
  refine g_if_ne (tgt := 11) K hF dX4_fault_1 (by decide) (fun hF => ?_) (fun hF => ?_)
  · refine g_iload_n (i := 1) K hl dX4_fault_11 rfl rfl ?_
    refine g_iconst K dX4_fault_12 lc_1 ?_
    refine g_icmp_ne (tgt := 23) K hF dX4_fault_13 (by decide) (fun hF => ?_) (fun hF => ?_)
    · refine g_iconst K dX4_fault_23 lc_m1 ?_
      exact m_iretP K hF ag.rf dX4_fault_24
    · refine g_aload_n (i := 0) K hl dX4_fault_16 rfl rfl ?_
      refine mget_3 K dX4_fault_17 ?_
      refine g_goto (tgt := 24) K dX4_fault_20 (by decide) ?_
      exact m_iretP K hF ag.rf dX4_fault_24
  · refine g_aload_n (i := 0) K hl dX4_fault_4 rfl rfl ?_
    refine mget_2 K dX4_fault_5 ?_
    refine g_goto (tgt := 24) K dX4_fault_8 (by decide) ?_
    exact m_iretP K hF ag.rf dX4_fault_24

theorem cp_isIn : cpS yX4_isIn cX4_isIn 3 (some .boolean) 3 := ⟨q2009, q152, q2010, by decide +kernel⟩
set_option maxHeartbeats 4000000 in
set_option maxRecDepth 100000 in
theorem w_isIn {l : Launch} {D : va_G} {cz : Nat → ClassId} {qm : Nat} (σ0 : MS) (a0 : Int32) (a1 : Int32) (a2 : Int32) (r : Int32) (hF : M_isIn a0 a1 a2 = some r) : mMet l D cz qm yX4_isIn cX4_isIn 3 (some .boolean) 0 wr_isIn [.int a0, .int a1, .int a2] σ0 (some (.int r)) σ0 := by
  refine m_of (by decide) rfl ?_
  intro p e s m args below meth c ls K hl
  unfold M_isIn at hF
  refine g_iload_n (i := 0) K hl dX4_isIn_0 rfl rfl ?_
  refine g_iload_n (i := 1) K hl dX4_isIn_1 rfl rfl ?_
  refine g_icmp_lt (tgt := 14) K hF dX4_isIn_2 (by decide) (fun hF => ?_) (fun hF => ?_)
  · refine g_iconst K dX4_isIn_14 lc_0 ?_
    exact m_zretP K hF (Or.inl rfl) ag.rf dX4_isIn_15
  · refine g_iload_n (i := 0) K hl dX4_isIn_5 rfl rfl ?_
    refine g_iload_n (i := 2) K hl dX4_isIn_6 rfl rfl ?_
    refine g_icmp_gt (tgt := 14) K hF dX4_isIn_7 (by decide) (fun hF => ?_) (fun hF => ?_)
    · refine g_iconst K dX4_isIn_14 lc_0 ?_
      exact m_zretP K hF (Or.inl rfl) ag.rf dX4_isIn_15
    · refine g_iconst K dX4_isIn_10 lc_1 ?_
      refine g_goto (tgt := 15) K dX4_isIn_11 (by decide) ?_
      exact m_zretP K hF (Or.inr rfl) ag.rf dX4_isIn_15

theorem cp_isApple : cpV yX4_isApple cX4_isApple 2 (some .boolean) 1 := ⟨q2006, qs98, q152, q2007, by decide +kernel⟩
set_option maxHeartbeats 4000000 in
set_option maxRecDepth 100000 in
theorem w_isApple {l : Launch} {D : va_G} {cz : Nat → ClassId} {qm : Nat} (σ0 : MS) (a0 : Int32) (r : Int32) (hF : M_isApple σ0 a0 = some r) : mMet l D cz qm yX4_isApple cX4_isApple 2 (some .boolean) 1 wr_isApple [.ref qm, .int a0] σ0 (some (.int r)) σ0 := by
  refine m_of (by decide) rfl ?_
  intro p e s m args below meth c ls K hl
  unfold M_isApple at hF
  refine g_iload_n (i := 1) K hl dX4_isApple_0 rfl rfl ?_
  refine g_iconst K dX4_isApple_1 lc_0 ?_
  refine g_aload_n (i := 0) K hl dX4_isApple_2 rfl rfl ?_
  refine mget_60 K dX4_isApple_3 ?_
  refine g_iconst K dX4_isApple_6 lc_1 ?_
  refine g_isub K dX4_isApple_7 ?_
  refine m_callSP K hl hF (fun t h => w_isIn _ _ _ _ t h) cp_isIn q2008 rfl rfl rfl rfl rfl dX4_isApple_8 (fun t1 hF => ?_)
  obtain ⟨hz, hF⟩ := bzI_i hF
  exact m_zretP K hF hz ag.rf dX4_isApple_11

theorem cp_isBobber : cpV yX4_isBobber cX4_isBobber 2 (some .boolean) 1 := ⟨q2017, qs99, q152, q2018, by decide +kernel⟩
set_option maxHeartbeats 4000000 in
set_option maxRecDepth 100000 in
theorem w_isBobber {l : Launch} {D : va_G} {cz : Nat → ClassId} {qm : Nat} (σ0 : MS) (a0 : Int32) (r : Int32) (hF : M_isBobber σ0 a0 = some r) : mMet l D cz qm yX4_isBobber cX4_isBobber 2 (some .boolean) 1 wr_isBobber [.ref qm, .int a0] σ0 (some (.int r)) σ0 := by
  refine m_of (by decide) rfl ?_
  intro p e s m args below meth c ls K hl
  unfold M_isBobber at hF
  refine g_iload_n (i := 1) K hl dX4_isBobber_0 rfl rfl ?_
  refine g_iconst K dX4_isBobber_1 lc_0 ?_
  refine g_aload_n (i := 0) K hl dX4_isBobber_2 rfl rfl ?_
  refine mget_61 K dX4_isBobber_3 ?_
  refine g_iconst K dX4_isBobber_6 lc_1 ?_
  refine g_isub K dX4_isBobber_7 ?_
  refine m_callSP K hl hF (fun t h => w_isIn _ _ _ _ t h) cp_isIn q2008 rfl rfl rfl rfl rfl dX4_isBobber_8 (fun t1 hF => ?_)
  obtain ⟨hz, hF⟩ := bzI_i hF
  exact m_zretP K hF hz ag.rf dX4_isBobber_11

theorem cp_isRule : cpV yX4_isRule cX4_isRule 2 (some .boolean) 1 := ⟨q2255, qs136, q152, q2256, by decide +kernel⟩
set_option maxHeartbeats 4000000 in
set_option maxRecDepth 100000 in
theorem w_isRule {l : Launch} {D : va_G} {cz : Nat → ClassId} {qm : Nat} (σ0 : MS) (a0 : Int32) (r : Int32) (hF : M_isRule σ0 a0 = some r) : mMet l D cz qm yX4_isRule cX4_isRule 2 (some .boolean) 1 wr_isRule [.ref qm, .int a0] σ0 (some (.int r)) σ0 := by
  refine m_of (by decide) rfl ?_
  intro p e s m args below meth c ls K hl
  unfold M_isRule at hF
  refine g_iload_n (i := 1) K hl dX4_isRule_0 rfl rfl ?_
  refine g_iconst K dX4_isRule_1 lc_0 ?_
  refine g_aload_n (i := 0) K hl dX4_isRule_2 rfl rfl ?_
  refine mget_59 K dX4_isRule_3 ?_
  refine g_iconst K dX4_isRule_6 lc_1 ?_
  refine g_isub K dX4_isRule_7 ?_
  refine m_callSP K hl hF (fun t h => w_isIn _ _ _ _ t h) cp_isIn q2008 rfl rfl rfl rfl rfl dX4_isRule_8 (fun t1 hF => ?_)
  obtain ⟨hz, hF⟩ := bzI_i hF
  exact m_zretP K hF hz ag.rf dX4_isRule_11

theorem cp_isCell : cpV yX4_isCell cX4_isCell 3 (some .boolean) 2 := ⟨q2127, qs119, q152, q2128, by decide +kernel⟩
set_option maxHeartbeats 4000000 in
set_option maxRecDepth 100000 in
theorem w_isCell {l : Launch} {D : va_G} {cz : Nat → ClassId} {qm : Nat} (σ0 : MS) (a0 : Int32) (a1 : Int32) (r : Int32) (hF : M_isCell σ0 a0 a1 = some r) : mMet l D cz qm yX4_isCell cX4_isCell 3 (some .boolean) 1 wr_isCell [.ref qm, .int a0, .int a1] σ0 (some (.int r)) σ0 := by
  refine m_of (by decide) rfl ?_
  intro p e s m args below meth c ls K hl
  unfold M_isCell at hF
  refine g_iload_n (i := 1) K hl dX4_isCell_0 rfl rfl ?_
  refine g_iconst K dX4_isCell_1 lc_0 ?_
  refine g_aload_n (i := 0) K hl dX4_isCell_2 rfl rfl ?_
  refine mget_56 K dX4_isCell_3 ?_
  refine g_iconst K dX4_isCell_6 lc_1 ?_
  refine g_isub K dX4_isCell_7 ?_
  refine m_callSP K hl hF (fun t h => w_isIn _ _ _ _ t h) cp_isIn q2008 rfl rfl rfl rfl rfl dX4_isCell_8 (fun t1 hF => ?_)
  refine g_if_eq (tgt := 32) K hF dX4_isCell_11 (by decide) (fun hF => ?_) (fun hF => ?_)
  · refine g_iconst K dX4_isCell_32 lc_0 ?_
    exact m_zretP K hF (Or.inl rfl) ag.rf dX4_isCell_33
  · refine g_iload_n (i := 2) K hl dX4_isCell_14 rfl rfl ?_
    refine g_iconst K dX4_isCell_15 lc_0 ?_
    refine g_aload_n (i := 0) K hl dX4_isCell_16 rfl rfl ?_
    refine mget_57 K dX4_isCell_17 ?_
    refine g_iconst K dX4_isCell_20 lc_1 ?_
    refine g_isub K dX4_isCell_21 ?_
    refine m_callSP K hl hF (fun t h => w_isIn _ _ _ _ t h) cp_isIn q2008 rfl rfl rfl rfl rfl dX4_isCell_22 (fun t2 hF => ?_)
    refine g_if_eq (tgt := 32) K hF dX4_isCell_25 (by decide) (fun hF => ?_) (fun hF => ?_)
    · refine g_iconst K dX4_isCell_32 lc_0 ?_
      exact m_zretP K hF (Or.inl rfl) ag.rf dX4_isCell_33
    · refine g_iconst K dX4_isCell_28 lc_1 ?_
      refine g_goto (tgt := 33) K dX4_isCell_29 (by decide) ?_
      exact m_zretP K hF (Or.inr rfl) ag.rf dX4_isCell_33

theorem cp_load : cpV yX4_load cX4_load 2 none 0 := ⟨q2029, qs101, q152, q2030, by decide +kernel⟩
set_option maxHeartbeats 4000000 in
set_option maxRecDepth 100000 in
theorem w_load {l : Launch} {D : va_G} {cz : Nat → ClassId} {qm : Nat} (G : Nat) (σ0 : MS)  (r : MS) (hF : M_load G σ0 = some r) : mMet l D cz qm yX4_load cX4_load 2 none 0 wr_load [.ref qm] σ0 none r := by
  refine m_of (by decide) rfl ?_
  intro p e s m args below meth c ls K hl
  have B2 : ∀ (k2 : MS → Int32 → Option MS) (hk2 : (∀ (σ : MS) (x1 : Int32) (ls : Array Slot), k2 σ x1 = some r → ag wr_load σ0 σ → lq ls 2 [(0, some (.ref qm)), (1, some (.int x1))] → ZM p l e 0 s m args below meth c D cz qm wr_load σ0 none r σ (F0 m 2 ls []))) (σ : MS) (x1 : Int32) (ls : Array Slot), M_load_B2 G k2 σ x1 = some r → ag wr_load σ0 σ → lq ls 2 [(0, some (.ref qm)), (1, some (.int x1))] → ZM p l e 0 s m args below meth c D cz qm wr_load σ0 none r σ (F0 m 2 ls []) := by
    intro k2 hk2 σ x1 ls hF ha hl
    unfold M_load_B2 at hF
    refine g_iload_n (i := 1) K hl dX4_load_2 rfl rfl ?_
    refine g_bipush K dX4_load_3 lb_123 ?_
    refine g_icmp_ge (tgt := 26) K hF dX4_load_5 (by decide) (fun hF => ?_) (fun hF => ?_)
    · exact m_vretV K hF ha dX4_load_26
    · refine g_aload_n (i := 0) K hl dX4_load_8 rfl rfl ?_
      refine mget_66 K dX4_load_9 ?_
      refine g_iload_n (i := 1) K hl dX4_load_12 rfl rfl ?_
      refine g_aload_n (i := 0) K hl dX4_load_13 rfl rfl ?_
      refine mget_67 K dX4_load_14 ?_
      refine g_iload_n (i := 1) K hl dX4_load_17 rfl rfl ?_
      refine mld_67 K hF dX4_load_18 (fun t1 hF => ?_)
      refine mst_66 K hF ha rfl dX4_load_19 (fun σ2 hF ha => ?_)
      refine g_iinc (i := 1) K hl dX4_load_20 rfl lc_1 rfl rfl (fun ls hl => ?_)
      refine g_goto (tgt := 2) K dX4_load_23 (by decide) ?_
      exact hk2 _ _ ls hF ha (lq_sub hl rfl)
  have L2 : ∀  (n : Nat) (σ : MS) (x1 : Int32) (ls : Array Slot), M_load_L2 G  n σ x1 = some r → ag wr_load σ0 σ → lq ls 2 [(0, some (.ref qm)), (1, some (.int x1))] → ZM p l e 0 s m args below meth c D cz qm wr_load σ0 none r σ (F0 m 2 ls []) := by
    intro  n
    induction n with
    | zero => intro σ x1 ls hF; exact absurd hF (fun h => by cases h)
    | succ n ih => intro σ x1 ls hF ha hl; exact B2  _ ih _ _ ls hF ha hl
  have ha : ag wr_load σ0 σ0 := ag.rf
  unfold M_load at hF
  refine g_iconst K dX4_load_0 lc_0 ?_
  refine g_istore_n (i := 1) K hl dX4_load_1 rfl rfl rfl (fun ls hl => ?_)
  exact L2  G _ _ ls hF ha (lq_sub hl rfl)

theorem cp_isAfloat : cpV yX4_isAfloat cX4_isAfloat 2 (some .boolean) 1 := ⟨q2037, qs103, q152, q2038, by decide +kernel⟩
set_option maxHeartbeats 4000000 in
set_option maxRecDepth 100000 in
theorem w_isAfloat {l : Launch} {D : va_G} {cz : Nat → ClassId} {qm : Nat} (σ0 : MS) (a0 : Int32) (r : Int32) (hF : M_isAfloat σ0 a0 = some r) : mMet l D cz qm yX4_isAfloat cX4_isAfloat 2 (some .boolean) 0 wr_isAfloat [.ref qm, .int a0] σ0 (some (.int r)) σ0 := by
  refine m_of (by decide) rfl ?_
  intro p e s m args below meth c ls K hl
  unfold M_isAfloat at hF
  refine g_aload_n (i := 0) K hl dX4_isAfloat_0 rfl rfl ?_
  refine mget_66 K dX4_isAfloat_1 ?_
  refine g_iconst K dX4_isAfloat_4 lc_5 ?_
  refine g_iload_n (i := 1) K hl dX4_isAfloat_5 rfl rfl ?_
  refine g_imul K dX4_isAfloat_6 ?_
  refine g_iconst K dX4_isAfloat_7 lc_2 ?_
  refine g_iadd K dX4_isAfloat_8 ?_
  refine mld_66 K hF dX4_isAfloat_9 (fun t1 hF => ?_)
  refine g_if_ge (tgt := 17) K hF dX4_isAfloat_10 (by decide) (fun hF => ?_) (fun hF => ?_)
  · refine g_iconst K dX4_isAfloat_17 lc_0 ?_
    exact m_zretP K hF (Or.inl rfl) ag.rf dX4_isAfloat_18
  · refine g_iconst K dX4_isAfloat_13 lc_1 ?_
    refine g_goto (tgt := 18) K dX4_isAfloat_14 (by decide) ?_
    exact m_zretP K hF (Or.inr rfl) ag.rf dX4_isAfloat_18

theorem cp_afloat : cpV yX4_afloat cX4_afloat 5 (some .int) 2 := ⟨q2063, qs108, q152, q2064, by decide +kernel⟩
set_option maxHeartbeats 4000000 in
set_option maxRecDepth 100000 in
theorem w_afloat {l : Launch} {D : va_G} {cz : Nat → ClassId} {qm : Nat} (G : Nat) (σ0 : MS) (a0 : Int32) (a1 : Int32) (r : Int32) (hF : M_afloat G σ0 a0 a1 = some r) : mMet l D cz qm yX4_afloat cX4_afloat 5 (some .int) 1 wr_afloat [.ref qm, .int a0, .int a1] σ0 (some (.int r)) σ0 := by
  refine m_of (by decide) rfl ?_
  intro p e s m args below meth c ls K hl
  have B5 : ∀ (k5 : Int32 → Int32 → Int32 → Int32 → Option Int32) (hk5 : (∀ (x1 : Int32) (x2 : Int32) (x3 : Int32) (x4 : Int32) (ls : Array Slot), k5 x1 x2 x3 x4 = some r → lq ls 5 [(0, some (.ref qm)), (1, some (.int x1)), (2, some (.int x2)), (3, some (.int x3)), (4, some (.int x4))] → ZM p l e 1 s m args below meth c D cz qm wr_afloat σ0 (some (.int r)) σ0 σ0 (F0 m 5 ls []))) (x1 : Int32) (x2 : Int32) (x3 : Int32) (x4 : Int32) (ls : Array Slot), M_afloat_B5 G σ0 k5 x1 x2 x3 x4 = some r → lq ls 5 [(0, some (.ref qm)), (1, some (.int x1)), (2, some (.int x2)), (3, some (.int x3)), (4, some (.int x4))] → ZM p l e 1 s m args below meth c D cz qm wr_afloat σ0 (some (.int r)) σ0 σ0 (F0 m 5 ls []) := by
    intro k5 hk5 x1 x2 x3 x4 ls hF hl
    unfold M_afloat_B5 at hF
    refine g_iload (i := 4) K hl dX4_afloat_5 rfl ?_
    refine g_aload_n (i := 0) K hl dX4_afloat_7 rfl rfl ?_
    refine mget_60 K dX4_afloat_8 ?_
    refine g_icmp_ge (tgt := 60) K hF dX4_afloat_11 (by decide) (fun hF => ?_) (fun hF => ?_)
    · refine g_iload_n (i := 3) K hl dX4_afloat_60 rfl rfl ?_
      exact m_iretP K hF ag.rf dX4_afloat_61
    · refine g_aload_n (i := 0) K hl dX4_afloat_14 rfl rfl ?_
      refine g_iload (i := 4) K hl dX4_afloat_15 rfl ?_
      refine m_callVP K hl hF (fun t h => w_isAfloat _ _ t h) rfl cp_isAfloat q2035 rfl rfl rfl rfl rfl dX4_afloat_17 (fun t1 hF => ?_)
      refine g_if_eq (tgt := 54) K hF dX4_afloat_20 (by decide) (fun hF => ?_) (fun hF => ?_)
      · refine g_iinc (i := 4) K hl dX4_afloat_54 rfl lc_1 rfl rfl (fun ls hl => ?_)
        refine g_goto (tgt := 5) K dX4_afloat_57 (by decide) ?_
        exact hk5 _ _ _ _ ls hF (lq_sub hl rfl)
      · refine g_aload_n (i := 0) K hl dX4_afloat_23 rfl rfl ?_
        refine mget_66 K dX4_afloat_24 ?_
        refine g_iconst K dX4_afloat_27 lc_5 ?_
        refine g_iload (i := 4) K hl dX4_afloat_28 rfl ?_
        refine g_imul K dX4_afloat_30 ?_
        refine mld_66 K hF dX4_afloat_31 (fun t2 hF => ?_)
        refine g_iload_n (i := 1) K hl dX4_afloat_32 rfl rfl ?_
        refine g_icmp_ne (tgt := 54) K hF dX4_afloat_33 (by decide) (fun hF => ?_) (fun hF => ?_)
        · refine g_iinc (i := 4) K hl dX4_afloat_54 rfl lc_1 rfl rfl (fun ls hl => ?_)
          refine g_goto (tgt := 5) K dX4_afloat_57 (by decide) ?_
          exact hk5 _ _ _ _ ls hF (lq_sub hl rfl)
        · refine g_aload_n (i := 0) K hl dX4_afloat_36 rfl rfl ?_
          refine mget_66 K dX4_afloat_37 ?_
          refine g_iconst K dX4_afloat_40 lc_5 ?_
          refine g_iload (i := 4) K hl dX4_afloat_41 rfl ?_
          refine g_imul K dX4_afloat_43 ?_
          refine g_iconst K dX4_afloat_44 lc_1 ?_
          refine g_iadd K dX4_afloat_45 ?_
          refine mld_66 K hF dX4_afloat_46 (fun t3 hF => ?_)
          refine g_iload_n (i := 2) K hl dX4_afloat_47 rfl rfl ?_
          refine g_icmp_ne (tgt := 54) K hF dX4_afloat_48 (by decide) (fun hF => ?_) (fun hF => ?_)
          · refine g_iinc (i := 4) K hl dX4_afloat_54 rfl lc_1 rfl rfl (fun ls hl => ?_)
            refine g_goto (tgt := 5) K dX4_afloat_57 (by decide) ?_
            exact hk5 _ _ _ _ ls hF (lq_sub hl rfl)
          · refine g_iload (i := 4) K hl dX4_afloat_51 rfl ?_
            refine g_istore_n (i := 3) K hl dX4_afloat_53 rfl rfl rfl (fun ls hl => ?_)
            refine g_iinc (i := 4) K hl dX4_afloat_54 rfl lc_1 rfl rfl (fun ls hl => ?_)
            refine g_goto (tgt := 5) K dX4_afloat_57 (by decide) ?_
            exact hk5 _ _ _ _ ls hF (lq_sub hl rfl)
  have L5 : ∀  (n : Nat) (x1 : Int32) (x2 : Int32) (x3 : Int32) (x4 : Int32) (ls : Array Slot), M_afloat_L5 G σ0  n x1 x2 x3 x4 = some r → lq ls 5 [(0, some (.ref qm)), (1, some (.int x1)), (2, some (.int x2)), (3, some (.int x3)), (4, some (.int x4))] → ZM p l e 1 s m args below meth c D cz qm wr_afloat σ0 (some (.int r)) σ0 σ0 (F0 m 5 ls []) := by
    intro  n
    induction n with
    | zero => intro x1 x2 x3 x4 ls hF; exact absurd hF (fun h => by cases h)
    | succ n ih => intro x1 x2 x3 x4 ls hF hl; exact B5  _ ih _ _ _ _ ls hF hl
  unfold M_afloat at hF
  refine g_iconst K dX4_afloat_0 lc_m1 ?_
  refine g_istore_n (i := 3) K hl dX4_afloat_1 rfl rfl rfl (fun ls hl => ?_)
  refine g_iconst K dX4_afloat_2 lc_0 ?_
  refine g_istore (i := 4) K hl dX4_afloat_3 rfl rfl (fun ls hl => ?_)
  exact L5  G _ _ _ _ ls hF (lq_sub hl rfl)

theorem cp_seconds : cpS yX4_seconds cX4_seconds 1 (some .int) 1 := ⟨q2115, q152, q2116, by decide +kernel⟩
set_option maxHeartbeats 4000000 in
set_option maxRecDepth 100000 in
theorem w_seconds {l : Launch} {D : va_G} {cz : Nat → ClassId} {qm : Nat} (σ0 : MS) (a0 : Int32) (r : Int32) (hF : M_seconds a0 = some r) : mMet l D cz qm yX4_seconds cX4_seconds 1 (some .int) 0 wr_seconds [.int a0] σ0 (some (.int r)) σ0 := by
  refine m_of (by decide) rfl ?_
  intro p e s m args below meth c ls K hl
  unfold M_seconds at hF
  refine g_iload_n (i := 0) K hl dX4_seconds_0 rfl rfl ?_
  refine g_iconst K dX4_seconds_1 lc_2 ?_
  refine g_icmp_eq (tgt := 10) K hF dX4_seconds_2 (by decide) (fun hF => ?_) (fun hF => ?_)
  · refine g_iload_n (i := 0) K hl dX4_seconds_10 rfl rfl ?_
    refine g_goto (tgt := 15) K dX4_seconds_11 (by decide) ?_
    exact m_iretP K hF ag.rf dX4_seconds_15
  · refine g_iload_n (i := 0) K hl dX4_seconds_5 rfl rfl ?_
    refine g_iconst K dX4_seconds_6 lc_3 ?_
    refine g_icmp_ne (tgt := 14) K hF dX4_seconds_7 (by decide) (fun hF => ?_) (fun hF => ?_)
    · refine g_iconst K dX4_seconds_14 lc_1 ?_
      exact m_iretP K hF ag.rf dX4_seconds_15
    · refine g_iload_n (i := 0) K hl dX4_seconds_10 rfl rfl ?_
      refine g_goto (tgt := 15) K dX4_seconds_11 (by decide) ?_
      exact m_iretP K hF ag.rf dX4_seconds_15

theorem cp_takesBreath : cpS yX4_takesBreath cX4_takesBreath 1 (some .int) 1 := ⟨q2047, q152, q2048, by decide +kernel⟩
set_option maxHeartbeats 4000000 in
set_option maxRecDepth 100000 in
theorem w_takesBreath {l : Launch} {D : va_G} {cz : Nat → ClassId} {qm : Nat} (σ0 : MS) (a0 : Int32) (r : Int32) (hF : M_takesBreath a0 = some r) : mMet l D cz qm yX4_takesBreath cX4_takesBreath 1 (some .int) 0 wr_takesBreath [.int a0] σ0 (some (.int r)) σ0 := by
  refine m_of (by decide) rfl ?_
  intro p e s m args below meth c ls K hl
  unfold M_takesBreath at hF
  refine g_iload_n (i := 0) K hl dX4_takesBreath_0 rfl rfl ?_
  refine g_iconst K dX4_takesBreath_1 lc_2 ?_
  refine g_icmp_ne (tgt := 9) K hF dX4_takesBreath_2 (by decide) (fun hF => ?_) (fun hF => ?_)
  · refine g_iload_n (i := 0) K hl dX4_takesBreath_9 rfl rfl ?_
    refine g_iconst K dX4_takesBreath_10 lc_3 ?_
    refine g_icmp_ne (tgt := 18) K hF dX4_takesBreath_11 (by decide) (fun hF => ?_) (fun hF => ?_)
    · refine g_iconst K dX4_takesBreath_18 lc_0 ?_
      exact m_iretP K hF ag.rf dX4_takesBreath_19
    · refine g_iconst K dX4_takesBreath_14 lc_3 ?_
      refine g_goto (tgt := 19) K dX4_takesBreath_15 (by decide) ?_
      exact m_iretP K hF ag.rf dX4_takesBreath_19
  · refine g_iconst K dX4_takesBreath_5 lc_1 ?_
    refine g_goto (tgt := 19) K dX4_takesBreath_6 (by decide) ?_
    exact m_iretP K hF ag.rf dX4_takesBreath_19

theorem cp_layWay : cpV yX4_layWay cX4_layWay 6 (some .boolean) 2 := ⟨q2059, qs107, q152, q2060, by decide +kernel⟩
set_option maxHeartbeats 4000000 in
set_option maxRecDepth 100000 in
theorem w_layWay {l : Launch} {D : va_G} {cz : Nat → ClassId} {qm : Nat} (σ0 : MS) (a0 : Int32) (a1 : Int32) (r : (Int32 × MS)) (hF : M_layWay σ0 a0 a1 = some r) : mMet l D cz qm yX4_layWay cX4_layWay 6 (some .boolean) 1 wr_layWay [.ref qm, .int a0, .int a1] σ0 (some (.int r.1)) r.2 := by
  refine m_of (by decide) rfl ?_
  intro p e s m args below meth c ls K hl
  have L100 : ∀  (σ : MS) (x3 : Int32) (x4 : Int32) (s1 : Int32) (ls : Array Slot), M_layWay_L100   σ x3 x4 s1 = some r → ag wr_layWay σ0 σ → lq ls 6 [(0, some (.ref qm)), (3, some (.int x3)), (4, some (.int x4))] → ZM p l e 1 s m args below meth c D cz qm wr_layWay σ0 (some (.int r.1)) r.2 σ (F0 m 100 ls [.int s1, .ref qm]) := by
    intro  σ x3 x4 s1 ls hF ha hl
    unfold M_layWay_L100 at hF
    refine mput_69 K hF ha rfl dX4_layWay_100 (fun σ1 hF ha => ?_)
    refine g_iload_n (i := 3) K hl dX4_layWay_103 rfl rfl ?_
    refine g_if_ne (tgt := 112) K hF dX4_layWay_104 (by decide) (fun hF => ?_) (fun hF => ?_)
    · refine g_iconst K dX4_layWay_112 lc_1 ?_
      refine g_goto (tgt := 117) K dX4_layWay_113 (by decide) ?_
      exact m_zretW K hF (Or.inr rfl) ha dX4_layWay_117
    · refine g_iload (i := 4) K hl dX4_layWay_107 rfl ?_
      refine g_if_eq (tgt := 116) K hF dX4_layWay_109 (by decide) (fun hF => ?_) (fun hF => ?_)
      · refine g_iconst K dX4_layWay_116 lc_0 ?_
        exact m_zretW K hF (Or.inl rfl) ha dX4_layWay_117
      · refine g_iconst K dX4_layWay_112 lc_1 ?_
        refine g_goto (tgt := 117) K dX4_layWay_113 (by decide) ?_
        exact m_zretW K hF (Or.inr rfl) ha dX4_layWay_117
  have L77 : ∀  (σ : MS) (x3 : Int32) (x4 : Int32) (x5 : Int32) (s1 : Int32) (ls : Array Slot), M_layWay_L77   σ x3 x4 x5 s1 = some r → ag wr_layWay σ0 σ → lq ls 6 [(0, some (.ref qm)), (3, some (.int x3)), (4, some (.int x4)), (5, some (.int x5))] → ZM p l e 1 s m args below meth c D cz qm wr_layWay σ0 (some (.int r.1)) r.2 σ (F0 m 77 ls [.int s1, .ref qm]) := by
    intro  σ x3 x4 x5 s1 ls hF ha hl
    unfold M_layWay_L77 at hF
    refine mput_68 K hF ha rfl dX4_layWay_77 (fun σ1 hF ha => ?_)
    refine g_aload_n (i := 0) K hl dX4_layWay_80 rfl rfl ?_
    refine g_iload (i := 5) K hl dX4_layWay_81 rfl ?_
    refine g_if_eq (tgt := 90) K hF dX4_layWay_83 (by decide) (fun hF => ?_) (fun hF => ?_)
    · refine g_iload (i := 4) K hl dX4_layWay_90 rfl ?_
      refine g_if_ge (tgt := 99) K hF dX4_layWay_92 (by decide) (fun hF => ?_) (fun hF => ?_)
      · refine g_iconst K dX4_layWay_99 lc_1 ?_
        exact L100  _ _ _ _ ls hF ha (lq_sub hl rfl)
      · refine g_iconst K dX4_layWay_95 lc_m1 ?_
        refine g_goto (tgt := 100) K dX4_layWay_96 (by decide) ?_
        exact L100  _ _ _ _ ls hF ha (lq_sub hl rfl)
    · refine g_iconst K dX4_layWay_86 lc_0 ?_
      refine g_goto (tgt := 100) K dX4_layWay_87 (by decide) ?_
      exact L100  _ _ _ _ ls hF ha (lq_sub hl rfl)
  have L64 : ∀  (σ : MS) (x3 : Int32) (x4 : Int32) (x5 : Int32) (ls : Array Slot), M_layWay_L64   σ x3 x4 x5 = some r → ag wr_layWay σ0 σ → lq ls 6 [(0, some (.ref qm)), (3, some (.int x3)), (4, some (.int x4)), (5, some (.int x5))] → ZM p l e 1 s m args below meth c D cz qm wr_layWay σ0 (some (.int r.1)) r.2 σ (F0 m 64 ls [.ref qm]) := by
    intro  σ x3 x4 x5 ls hF ha hl
    unfold M_layWay_L64 at hF
    refine g_iconst K dX4_layWay_64 lc_0 ?_
    refine g_goto (tgt := 77) K dX4_layWay_65 (by decide) ?_
    exact L77  _ _ _ _ _ ls hF ha (lq_sub hl rfl)
  have L52 : ∀  (σ : MS) (x3 : Int32) (x4 : Int32) (s0 : Int32) (ls : Array Slot), M_layWay_L52   σ x3 x4 s0 = some r → ag wr_layWay σ0 σ → lq ls 6 [(0, some (.ref qm)), (3, some (.int x3)), (4, some (.int x4))] → ZM p l e 1 s m args below meth c D cz qm wr_layWay σ0 (some (.int r.1)) r.2 σ (F0 m 52 ls [.int s0]) := by
    intro  σ x3 x4 s0 ls hF ha hl
    unfold M_layWay_L52 at hF
    refine g_istore (i := 5) K hl dX4_layWay_52 rfl rfl (fun ls hl => ?_)
    refine g_aload_n (i := 0) K hl dX4_layWay_54 rfl rfl ?_
    refine g_iload (i := 5) K hl dX4_layWay_55 rfl ?_
    refine g_if_eq (tgt := 64) K hF dX4_layWay_57 (by decide) (fun hF => ?_) (fun hF => ?_)
    · exact L64  _ _ _ _ ls hF ha (lq_sub hl rfl)
    · refine g_iload_n (i := 3) K hl dX4_layWay_60 rfl rfl ?_
      refine g_if_ne (tgt := 68) K hF dX4_layWay_61 (by decide) (fun hF => ?_) (fun hF => ?_)
      · refine g_iload_n (i := 3) K hl dX4_layWay_68 rfl rfl ?_
        refine g_if_ge (tgt := 76) K hF dX4_layWay_69 (by decide) (fun hF => ?_) (fun hF => ?_)
        · refine g_iconst K dX4_layWay_76 lc_1 ?_
          exact L77  _ _ _ _ _ ls hF ha (lq_sub hl rfl)
        · refine g_iconst K dX4_layWay_72 lc_m1 ?_
          refine g_goto (tgt := 77) K dX4_layWay_73 (by decide) ?_
          exact L77  _ _ _ _ _ ls hF ha (lq_sub hl rfl)
      · exact L64  _ _ _ _ ls hF ha (lq_sub hl rfl)
  have ha : ag wr_layWay σ0 σ0 := ag.rf
  unfold M_layWay at hF
  refine g_aload_n (i := 0) K hl dX4_layWay_0 rfl rfl ?_
  refine mget_66 K dX4_layWay_1 ?_
  refine g_iconst K dX4_layWay_4 lc_5 ?_
  refine g_iload_n (i := 2) K hl dX4_layWay_5 rfl rfl ?_
  refine g_imul K dX4_layWay_6 ?_
  refine mld_66 K hF dX4_layWay_7 (fun t1 hF => ?_)
  refine g_aload_n (i := 0) K hl dX4_layWay_8 rfl rfl ?_
  refine mget_42 K dX4_layWay_9 ?_
  refine g_iload_n (i := 1) K hl dX4_layWay_12 rfl rfl ?_
  refine mld_42 K hF dX4_layWay_13 (fun t2 hF => ?_)
  refine g_isub K dX4_layWay_14 ?_
  refine g_istore_n (i := 3) K hl dX4_layWay_15 rfl rfl rfl (fun ls hl => ?_)
  refine g_aload_n (i := 0) K hl dX4_layWay_16 rfl rfl ?_
  refine mget_66 K dX4_layWay_17 ?_
  refine g_iconst K dX4_layWay_20 lc_5 ?_
  refine g_iload_n (i := 2) K hl dX4_layWay_21 rfl rfl ?_
  refine g_imul K dX4_layWay_22 ?_
  refine g_iconst K dX4_layWay_23 lc_1 ?_
  refine g_iadd K dX4_layWay_24 ?_
  refine mld_66 K hF dX4_layWay_25 (fun t3 hF => ?_)
  refine g_aload_n (i := 0) K hl dX4_layWay_26 rfl rfl ?_
  refine mget_43 K dX4_layWay_27 ?_
  refine g_iload_n (i := 1) K hl dX4_layWay_30 rfl rfl ?_
  refine mld_43 K hF dX4_layWay_31 (fun t4 hF => ?_)
  refine g_isub K dX4_layWay_32 ?_
  refine g_istore (i := 4) K hl dX4_layWay_33 rfl rfl (fun ls hl => ?_)
  refine g_iload_n (i := 3) K hl dX4_layWay_35 rfl rfl ?_
  refine m_callSP K hl hF (fun t h => w_amount _ _ t h) cp_amount q2043 rfl rfl rfl rfl rfl dX4_layWay_36 (fun t5 hF => ?_)
  refine g_iload (i := 4) K hl dX4_layWay_39 rfl ?_
  refine m_callSP K hl hF (fun t h => w_amount _ _ t h) cp_amount q2043 rfl rfl rfl rfl rfl dX4_layWay_41 (fun t6 hF => ?_)
  refine g_icmp_lt (tgt := 51) K hF dX4_layWay_44 (by decide) (fun hF => ?_) (fun hF => ?_)
  · refine g_iconst K dX4_layWay_51 lc_0 ?_
    exact L52  _ _ _ _ ls hF ha (lq_sub hl rfl)
  · refine g_iconst K dX4_layWay_47 lc_1 ?_
    refine g_goto (tgt := 52) K dX4_layWay_48 (by decide) ?_
    exact L52  _ _ _ _ ls hF ha (lq_sub hl rfl)

theorem cp_leans : cpV yX4_leans cX4_leans 3 (some .boolean) 2 := ⟨q2055, qs106, q152, q2056, by decide +kernel⟩
set_option maxHeartbeats 4000000 in
set_option maxRecDepth 100000 in
theorem w_leans {l : Launch} {D : va_G} {cz : Nat → ClassId} {qm : Nat} (G : Nat) (σ0 : MS) (a0 : Int32) (a1 : Int32) (r : (Int32 × MS)) (hF : M_leans G σ0 a0 a1 = some r) : mMet l D cz qm yX4_leans cX4_leans 3 (some .boolean) 2 wr_leans [.ref qm, .int a0, .int a1] σ0 (some (.int r.1)) r.2 := by
  refine m_of (by decide) rfl ?_
  intro p e s m args below meth c ls K hl
  have ha : ag wr_leans σ0 σ0 := ag.rf
  unfold M_leans at hF
  refine g_aload_n (i := 0) K hl dX4_leans_0 rfl rfl ?_
  refine g_iload_n (i := 1) K hl dX4_leans_1 rfl rfl ?_
  refine g_iload_n (i := 2) K hl dX4_leans_2 rfl rfl ?_
  refine m_callVW K hl hF ha rfl (fun t h => w_layWay _ _ _ t h) rfl cp_layWay q2057 rfl rfl rfl rfl rfl dX4_leans_3 (fun t2 σ1 hF ha => ?_)
  refine g_if_eq (tgt := 48) K hF dX4_leans_6 (by decide) (fun hF => ?_) (fun hF => ?_)
  · refine g_iconst K dX4_leans_48 lc_0 ?_
    exact m_zretW K hF (Or.inl rfl) ha dX4_leans_49
  · refine g_aload_n (i := 0) K hl dX4_leans_9 rfl rfl ?_
    refine g_aload_n (i := 0) K hl dX4_leans_10 rfl rfl ?_
    refine mget_66 K dX4_leans_11 ?_
    refine g_iconst K dX4_leans_14 lc_5 ?_
    refine g_iload_n (i := 2) K hl dX4_leans_15 rfl rfl ?_
    refine g_imul K dX4_leans_16 ?_
    refine mld_66 K hF dX4_leans_17 (fun t3 hF => ?_)
    refine g_aload_n (i := 0) K hl dX4_leans_18 rfl rfl ?_
    refine mget_68 K dX4_leans_19 ?_
    refine g_iadd K dX4_leans_22 ?_
    refine g_aload_n (i := 0) K hl dX4_leans_23 rfl rfl ?_
    refine mget_66 K dX4_leans_24 ?_
    refine g_iconst K dX4_leans_27 lc_5 ?_
    refine g_iload_n (i := 2) K hl dX4_leans_28 rfl rfl ?_
    refine g_imul K dX4_leans_29 ?_
    refine g_iconst K dX4_leans_30 lc_1 ?_
    refine g_iadd K dX4_leans_31 ?_
    refine mld_66 K hF dX4_leans_32 (fun t4 hF => ?_)
    refine g_aload_n (i := 0) K hl dX4_leans_33 rfl rfl ?_
    refine mget_69 K dX4_leans_34 ?_
    refine g_iadd K dX4_leans_37 ?_
    refine m_callVP K hl hF (fun t h => w_afloat G _ _ _ t h) rfl cp_afloat q2061 rfl rfl rfl rfl rfl dX4_leans_38 (fun t5 hF => ?_)
    refine g_if_lt (tgt := 48) K hF dX4_leans_41 (by decide) (fun hF => ?_) (fun hF => ?_)
    · refine g_iconst K dX4_leans_48 lc_0 ?_
      exact m_zretW K hF (Or.inl rfl) ha dX4_leans_49
    · refine g_iconst K dX4_leans_44 lc_1 ?_
      refine g_goto (tgt := 49) K dX4_leans_45 (by decide) ?_
      exact m_zretW K hF (Or.inr rfl) ha dX4_leans_49

theorem cp_canTry : cpV yX4_canTry cX4_canTry 4 (some .boolean) 3 := ⟨q2033, qs102, q152, q2034, by decide +kernel⟩
set_option maxHeartbeats 4000000 in
set_option maxRecDepth 100000 in
theorem w_canTry {l : Launch} {D : va_G} {cz : Nat → ClassId} {qm : Nat} (G : Nat) (σ0 : MS) (a0 : Int32) (a1 : Int32) (a2 : Int32) (r : (Int32 × MS)) (hF : M_canTry G σ0 a0 a1 a2 = some r) : mMet l D cz qm yX4_canTry cX4_canTry 4 (some .boolean) 3 wr_canTry [.ref qm, .int a0, .int a1, .int a2] σ0 (some (.int r.1)) r.2 := by
  refine m_of (by decide) rfl ?_
  intro p e s m args below meth c ls K hl
  have L68 : ∀  (σ : MS) (x1 : Int32) (x2 : Int32) (x3 : Int32) (ls : Array Slot), M_canTry_L68 G  σ x1 x2 x3 = some r → ag wr_canTry σ0 σ → lq ls 4 [(0, some (.ref qm)), (1, some (.int x1)), (2, some (.int x2)), (3, some (.int x3))] → ZM p l e 3 s m args below meth c D cz qm wr_canTry σ0 (some (.int r.1)) r.2 σ (F0 m 68 ls []) := by
    intro  σ x1 x2 x3 ls hF ha hl
    unfold M_canTry_L68 at hF
    refine g_iload_n (i := 3) K hl dX4_canTry_68 rfl rfl ?_
    refine g_iconst K dX4_canTry_69 lc_4 ?_
    refine g_icmp_ne (tgt := 82) K hF dX4_canTry_70 (by decide) (fun hF => ?_) (fun hF => ?_)
    · refine g_iconst K dX4_canTry_82 lc_1 ?_
      refine g_goto (tgt := 87) K dX4_canTry_83 (by decide) ?_
      exact m_zretW K hF (Or.inr rfl) ha dX4_canTry_87
    · refine g_aload_n (i := 0) K hl dX4_canTry_73 rfl rfl ?_
      refine g_iload_n (i := 1) K hl dX4_canTry_74 rfl rfl ?_
      refine g_iload_n (i := 2) K hl dX4_canTry_75 rfl rfl ?_
      refine m_callVW K hl hF ha rfl (fun t h => w_leans G _ _ _ t h) rfl cp_leans q2053 rfl rfl rfl rfl rfl dX4_canTry_76 (fun t2 σ1 hF ha => ?_)
      refine g_if_eq (tgt := 86) K hF dX4_canTry_79 (by decide) (fun hF => ?_) (fun hF => ?_)
      · refine g_iconst K dX4_canTry_86 lc_0 ?_
        exact m_zretW K hF (Or.inl rfl) ha dX4_canTry_87
      · refine g_iconst K dX4_canTry_82 lc_1 ?_
        refine g_goto (tgt := 87) K dX4_canTry_83 (by decide) ?_
        exact m_zretW K hF (Or.inr rfl) ha dX4_canTry_87
  have L55 : ∀  (σ : MS) (x1 : Int32) (x2 : Int32) (x3 : Int32) (ls : Array Slot), M_canTry_L55 G  σ x1 x2 x3 = some r → ag wr_canTry σ0 σ → lq ls 4 [(0, some (.ref qm)), (1, some (.int x1)), (2, some (.int x2)), (3, some (.int x3))] → ZM p l e 3 s m args below meth c D cz qm wr_canTry σ0 (some (.int r.1)) r.2 σ (F0 m 55 ls []) := by
    intro  σ x1 x2 x3 ls hF ha hl
    unfold M_canTry_L55 at hF
    refine g_iload_n (i := 3) K hl dX4_canTry_55 rfl rfl ?_
    refine g_iconst K dX4_canTry_56 lc_2 ?_
    refine g_icmp_ne (tgt := 68) K hF dX4_canTry_57 (by decide) (fun hF => ?_) (fun hF => ?_)
    · exact L68  _ _ _ _ ls hF ha (lq_sub hl rfl)
    · refine g_aload_n (i := 0) K hl dX4_canTry_60 rfl rfl ?_
      refine g_iload_n (i := 2) K hl dX4_canTry_61 rfl rfl ?_
      refine m_callVP K hl hF (fun t h => w_isRim _ _ t h) rfl cp_isRim q2049 rfl rfl rfl rfl rfl dX4_canTry_62 (fun t1 hF => ?_)
      refine g_if_eq (tgt := 86) K hF dX4_canTry_65 (by decide) (fun hF => ?_) (fun hF => ?_)
      · refine g_iconst K dX4_canTry_86 lc_0 ?_
        exact m_zretW K hF (Or.inl rfl) ha dX4_canTry_87
      · exact L68  _ _ _ _ ls hF ha (lq_sub hl rfl)
  have ha : ag wr_canTry σ0 σ0 := ag.rf
  unfold M_canTry at hF
  refine g_aload_n (i := 0) K hl dX4_canTry_0 rfl rfl ?_
  refine g_iload_n (i := 2) K hl dX4_canTry_1 rfl rfl ?_
  refine m_callVP K hl hF (fun t h => w_isAfloat _ _ t h) rfl cp_isAfloat q2035 rfl rfl rfl rfl rfl dX4_canTry_2 (fun t1 hF => ?_)
  refine g_if_eq (tgt := 86) K hF dX4_canTry_5 (by decide) (fun hF => ?_) (fun hF => ?_)
  · refine g_iconst K dX4_canTry_86 lc_0 ?_
    exact m_zretW K hF (Or.inl rfl) ha dX4_canTry_87
  · refine g_aload_n (i := 0) K hl dX4_canTry_8 rfl rfl ?_
    refine g_iload_n (i := 1) K hl dX4_canTry_9 rfl rfl ?_
    refine g_iload_n (i := 2) K hl dX4_canTry_10 rfl rfl ?_
    refine m_callVP K hl hF (fun t h => w_far _ _ _ t h) rfl cp_far q2039 rfl rfl rfl rfl rfl dX4_canTry_11 (fun t2 hF => ?_)
    refine g_aload_n (i := 0) K hl dX4_canTry_14 rfl rfl ?_
    refine mget_44 K dX4_canTry_15 ?_
    refine g_iload_n (i := 1) K hl dX4_canTry_18 rfl rfl ?_
    refine mld_44 K hF dX4_canTry_19 (fun t3 hF => ?_)
    refine g_icmp_gt (tgt := 86) K hF dX4_canTry_20 (by decide) (fun hF => ?_) (fun hF => ?_)
    · refine g_iconst K dX4_canTry_86 lc_0 ?_
      exact m_zretW K hF (Or.inl rfl) ha dX4_canTry_87
    · refine g_aload_n (i := 0) K hl dX4_canTry_23 rfl rfl ?_
      refine mget_66 K dX4_canTry_24 ?_
      refine g_bipush K dX4_canTry_27 lb_50 ?_
      refine g_iconst K dX4_canTry_29 lc_3 ?_
      refine g_iload_n (i := 1) K hl dX4_canTry_30 rfl rfl ?_
      refine g_imul K dX4_canTry_31 ?_
      refine g_iadd K dX4_canTry_32 ?_
      refine mld_66 K hF dX4_canTry_33 (fun t4 hF => ?_)
      refine g_iload_n (i := 3) K hl dX4_canTry_34 rfl rfl ?_
      refine m_callSP K hl hF (fun t h => w_takesBreath _ _ t h) cp_takesBreath q2046 rfl rfl rfl rfl rfl dX4_canTry_35 (fun t5 hF => ?_)
      refine g_icmp_lt (tgt := 86) K hF dX4_canTry_38 (by decide) (fun hF => ?_) (fun hF => ?_)
      · refine g_iconst K dX4_canTry_86 lc_0 ?_
        exact m_zretW K hF (Or.inl rfl) ha dX4_canTry_87
      · refine g_iload_n (i := 3) K hl dX4_canTry_41 rfl rfl ?_
        refine g_iconst K dX4_canTry_42 lc_1 ?_
        refine g_icmp_ne (tgt := 55) K hF dX4_canTry_43 (by decide) (fun hF => ?_) (fun hF => ?_)
        · exact L55  _ _ _ _ ls hF ha (lq_sub hl rfl)
        · refine g_aload_n (i := 0) K hl dX4_canTry_46 rfl rfl ?_
          refine mget_48 K dX4_canTry_47 ?_
          refine g_iload_n (i := 2) K hl dX4_canTry_50 rfl rfl ?_
          refine mld_48 K hF dX4_canTry_51 (fun t6 hF => ?_)
          refine g_if_eq (tgt := 86) K hF dX4_canTry_52 (by decide) (fun hF => ?_) (fun hF => ?_)
          · refine g_iconst K dX4_canTry_86 lc_0 ?_
            exact m_zretW K hF (Or.inl rfl) ha dX4_canTry_87
          · exact L55  _ _ _ _ ls hF ha (lq_sub hl rfl)

theorem cp_oddsOf : cpV yX4_oddsOf cX4_oddsOf 5 (some .int) 3 := ⟨q2067, qs109, q152, q2068, by decide +kernel⟩
set_option maxHeartbeats 4000000 in
set_option maxRecDepth 100000 in
theorem w_oddsOf {l : Launch} {D : va_G} {cz : Nat → ClassId} {qm : Nat} (G : Nat) (σ0 : MS) (a0 : Int32) (a1 : Int32) (a2 : Int32) (r : (Int32 × MS)) (hF : M_oddsOf G σ0 a0 a1 a2 = some r) : mMet l D cz qm yX4_oddsOf cX4_oddsOf 5 (some .int) 4 wr_oddsOf [.ref qm, .int a0, .int a1, .int a2] σ0 (some (.int r.1)) r.2 := by
  refine m_of (by decide) rfl ?_
  intro p e s m args below meth c ls K hl
  have L26 : ∀  (σ : MS) (s0 : Int32) (ls : Array Slot), M_oddsOf_L26 G  σ s0 = some r → ag wr_oddsOf σ0 σ → lq ls 5 [(0, some (.ref qm))] → ZM p l e 4 s m args below meth c D cz qm wr_oddsOf σ0 (some (.int r.1)) r.2 σ (F0 m 26 ls [.int s0]) := by
    intro  σ s0 ls hF ha hl
    unfold M_oddsOf_L26 at hF
    refine g_istore (i := 4) K hl dX4_oddsOf_26 rfl rfl (fun ls hl => ?_)
    refine g_iload (i := 4) K hl dX4_oddsOf_28 rfl ?_
    refine g_if_ge (tgt := 37) K hF dX4_oddsOf_30 (by decide) (fun hF => ?_) (fun hF => ?_)
    · refine g_iload (i := 4) K hl dX4_oddsOf_37 rfl ?_
      refine g_bipush K dX4_oddsOf_39 lb_100 ?_
      refine g_icmp_le (tgt := 49) K hF dX4_oddsOf_41 (by decide) (fun hF => ?_) (fun hF => ?_)
      · refine g_iload (i := 4) K hl dX4_oddsOf_49 rfl ?_
        exact m_iretW K hF ha dX4_oddsOf_51
      · refine g_bipush K dX4_oddsOf_44 lb_100 ?_
        refine g_goto (tgt := 51) K dX4_oddsOf_46 (by decide) ?_
        exact m_iretW K hF ha dX4_oddsOf_51
    · refine g_iconst K dX4_oddsOf_33 lc_0 ?_
      refine g_goto (tgt := 51) K dX4_oddsOf_34 (by decide) ?_
      exact m_iretW K hF ha dX4_oddsOf_51
  have ha : ag wr_oddsOf σ0 σ0 := ag.rf
  unfold M_oddsOf at hF
  refine g_aload_n (i := 0) K hl dX4_oddsOf_0 rfl rfl ?_
  refine mget_58 K dX4_oddsOf_1 ?_
  refine g_iload_n (i := 3) K hl dX4_oddsOf_4 rfl rfl ?_
  refine g_ishr K dX4_oddsOf_5 ?_
  refine g_iconst K dX4_oddsOf_6 lc_1 ?_
  refine g_iand K dX4_oddsOf_7 ?_
  refine g_iconst K dX4_oddsOf_8 lc_1 ?_
  refine g_icmp_ne (tgt := 24) K hF dX4_oddsOf_9 (by decide) (fun hF => ?_) (fun hF => ?_)
  · refine g_bipush K dX4_oddsOf_24 lb_50 ?_
    exact L26  _ _ ls hF ha (lq_sub hl rfl)
  · refine g_aload_n (i := 0) K hl dX4_oddsOf_12 rfl rfl ?_
    refine g_iload_n (i := 3) K hl dX4_oddsOf_13 rfl rfl ?_
    refine g_iload_n (i := 1) K hl dX4_oddsOf_14 rfl rfl ?_
    refine g_iload_n (i := 2) K hl dX4_oddsOf_15 rfl rfl ?_
    refine g_iconst K dX4_oddsOf_16 lc_0 ?_
    refine g_iconst K dX4_oddsOf_17 lc_0 ?_
    refine m_callVW K hl hF ha rfl (fun t h => w_worked G _ _ _ _ _ _ t h) rfl cp_worked q2069 rfl rfl rfl rfl rfl dX4_oddsOf_18 (fun t2 σ1 hF ha => ?_)
    refine g_goto (tgt := 26) K dX4_oddsOf_21 (by decide) ?_
    exact L26  _ _ ls hF ha (lq_sub hl rfl)

theorem cp_push : cpV yX4_push cX4_push 8 none 2 := ⟨q2123, qs118, q152, q2124, by decide +kernel⟩
set_option maxHeartbeats 4000000 in
set_option maxRecDepth 100000 in
theorem w_push {l : Launch} {D : va_G} {cz : Nat → ClassId} {qm : Nat} (G : Nat) (σ0 : MS) (a0 : Int32) (a1 : Int32) (r : MS) (hF : M_push G σ0 a0 a1 = some r) : mMet l D cz qm yX4_push cX4_push 8 none 2 wr_push [.ref qm, .int a0, .int a1] σ0 none r := by
  refine m_of (by decide) rfl ?_
  intro p e s m args below meth c ls K hl
  have B90 : ∀ (k90 : MS → Int32 → Int32 → Int32 → Int32 → Option MS) (hk90 : (∀ (σ : MS) (x3 : Int32) (x4 : Int32) (x5 : Int32) (x6 : Int32) (ls : Array Slot), k90 σ x3 x4 x5 x6 = some r → ag wr_push σ0 σ → lq ls 8 [(0, some (.ref qm)), (3, some (.int x3)), (4, some (.int x4)), (5, some (.int x5)), (6, some (.int x6))] → ZM p l e 2 s m args below meth c D cz qm wr_push σ0 none r σ (F0 m 90 ls []))) (σ : MS) (x3 : Int32) (x4 : Int32) (x5 : Int32) (x6 : Int32) (ls : Array Slot), M_push_B90 G k90 σ x3 x4 x5 x6 = some r → ag wr_push σ0 σ → lq ls 8 [(0, some (.ref qm)), (3, some (.int x3)), (4, some (.int x4)), (5, some (.int x5)), (6, some (.int x6))] → ZM p l e 2 s m args below meth c D cz qm wr_push σ0 none r σ (F0 m 90 ls []) := by
    intro k90 hk90 σ x3 x4 x5 x6 ls hF ha hl
    unfold M_push_B90 at hF
    refine g_iload (i := 6) K hl dX4_push_90 rfl ?_
    refine g_iload (i := 5) K hl dX4_push_92 rfl ?_
    refine g_icmp_ge (tgt := 161) K hF dX4_push_94 (by decide) (fun hF => ?_) (fun hF => ?_)
    · exact m_vretV K hF ha dX4_push_161
    · refine g_aload_n (i := 0) K hl dX4_push_97 rfl rfl ?_
      refine g_iload_n (i := 3) K hl dX4_push_98 rfl rfl ?_
      refine g_aload_n (i := 0) K hl dX4_push_99 rfl rfl ?_
      refine mget_68 K dX4_push_100 ?_
      refine g_isub K dX4_push_103 ?_
      refine g_iload (i := 4) K hl dX4_push_104 rfl ?_
      refine g_aload_n (i := 0) K hl dX4_push_106 rfl rfl ?_
      refine mget_69 K dX4_push_107 ?_
      refine g_isub K dX4_push_110 ?_
      refine m_callVP K hl hF (fun t h => w_afloat G _ _ _ t h) rfl cp_afloat q2061 rfl rfl rfl rfl rfl dX4_push_111 (fun t1 hF => ?_)
      refine g_istore (i := 7) K hl dX4_push_114 rfl rfl (fun ls hl => ?_)
      refine g_aload_n (i := 0) K hl dX4_push_116 rfl rfl ?_
      refine mget_66 K dX4_push_117 ?_
      refine g_iconst K dX4_push_120 lc_5 ?_
      refine g_iload (i := 7) K hl dX4_push_121 rfl ?_
      refine g_imul K dX4_push_123 ?_
      refine g_iload_n (i := 3) K hl dX4_push_124 rfl rfl ?_
      refine mst_66 K hF ha rfl dX4_push_125 (fun σ2 hF ha => ?_)
      refine g_aload_n (i := 0) K hl dX4_push_126 rfl rfl ?_
      refine mget_66 K dX4_push_127 ?_
      refine g_iconst K dX4_push_130 lc_5 ?_
      refine g_iload (i := 7) K hl dX4_push_131 rfl ?_
      refine g_imul K dX4_push_133 ?_
      refine g_iconst K dX4_push_134 lc_1 ?_
      refine g_iadd K dX4_push_135 ?_
      refine g_iload (i := 4) K hl dX4_push_136 rfl ?_
      refine mst_66 K hF ha rfl dX4_push_138 (fun σ3 hF ha => ?_)
      refine g_iload_n (i := 3) K hl dX4_push_139 rfl rfl ?_
      refine g_aload_n (i := 0) K hl dX4_push_140 rfl rfl ?_
      refine mget_68 K dX4_push_141 ?_
      refine g_isub K dX4_push_144 ?_
      refine g_istore_n (i := 3) K hl dX4_push_145 rfl rfl rfl (fun ls hl => ?_)
      refine g_iload (i := 4) K hl dX4_push_146 rfl ?_
      refine g_aload_n (i := 0) K hl dX4_push_148 rfl rfl ?_
      refine mget_69 K dX4_push_149 ?_
      refine g_isub K dX4_push_152 ?_
      refine g_istore (i := 4) K hl dX4_push_153 rfl rfl (fun ls hl => ?_)
      refine g_iinc (i := 6) K hl dX4_push_155 rfl lc_1 rfl rfl (fun ls hl => ?_)
      refine g_goto (tgt := 90) K dX4_push_158 (by decide) ?_
      exact hk90 _ _ _ _ _ ls hF ha (lq_sub hl rfl)
  have L90 : ∀  (n : Nat) (σ : MS) (x3 : Int32) (x4 : Int32) (x5 : Int32) (x6 : Int32) (ls : Array Slot), M_push_L90 G  n σ x3 x4 x5 x6 = some r → ag wr_push σ0 σ → lq ls 8 [(0, some (.ref qm)), (3, some (.int x3)), (4, some (.int x4)), (5, some (.int x5)), (6, some (.int x6))] → ZM p l e 2 s m args below meth c D cz qm wr_push σ0 none r σ (F0 m 90 ls []) := by
    intro  n
    induction n with
    | zero => intro σ x3 x4 x5 x6 ls hF; exact absurd hF (fun h => by cases h)
    | succ n ih => intro σ x3 x4 x5 x6 ls hF ha hl; exact B90  _ ih _ _ _ _ _ ls hF ha hl
  have L76 : ∀  (σ : MS) (x3 : Int32) (x4 : Int32) (x5 : Int32) (ls : Array Slot), M_push_L76 G  σ x3 x4 x5 = some r → ag wr_push σ0 σ → lq ls 8 [(0, some (.ref qm)), (3, some (.int x3)), (4, some (.int x4)), (5, some (.int x5))] → ZM p l e 2 s m args below meth c D cz qm wr_push σ0 none r σ (F0 m 76 ls []) := by
    intro  σ x3 x4 x5 ls hF ha hl
    unfold M_push_L76 at hF
    refine g_aload_n (i := 0) K hl dX4_push_76 rfl rfl ?_
    refine g_iload_n (i := 3) K hl dX4_push_77 rfl rfl ?_
    refine g_iload (i := 4) K hl dX4_push_78 rfl ?_
    refine m_callVP K hl hF (fun t h => w_isCell _ _ _ t h) rfl cp_isCell q2125 rfl rfl rfl rfl rfl dX4_push_80 (fun t1 hF => ?_)
    refine g_if_ne (tgt := 87) K hF dX4_push_83 (by decide) (fun hF => ?_) (fun hF => ?_)
    · refine g_iconst K dX4_push_87 lc_0 ?_
      refine g_istore (i := 6) K hl dX4_push_88 rfl rfl (fun ls hl => ?_)
      exact L90  G _ _ _ _ _ ls hF ha (lq_sub hl rfl)
    · exact m_vretV K hF ha dX4_push_86
  have B34 : ∀ (k34 : MS → Int32 → Int32 → Int32 → Option MS) (hk34 : (∀ (σ : MS) (x3 : Int32) (x4 : Int32) (x5 : Int32) (ls : Array Slot), k34 σ x3 x4 x5 = some r → ag wr_push σ0 σ → lq ls 8 [(0, some (.ref qm)), (3, some (.int x3)), (4, some (.int x4)), (5, some (.int x5))] → ZM p l e 2 s m args below meth c D cz qm wr_push σ0 none r σ (F0 m 34 ls []))) (σ : MS) (x3 : Int32) (x4 : Int32) (x5 : Int32) (ls : Array Slot), M_push_B34 G k34 σ x3 x4 x5 = some r → ag wr_push σ0 σ → lq ls 8 [(0, some (.ref qm)), (3, some (.int x3)), (4, some (.int x4)), (5, some (.int x5))] → ZM p l e 2 s m args below meth c D cz qm wr_push σ0 none r σ (F0 m 34 ls []) := by
    intro k34 hk34 σ x3 x4 x5 ls hF ha hl
    unfold M_push_B34 at hF
    refine g_aload_n (i := 0) K hl dX4_push_34 rfl rfl ?_
    refine g_iload_n (i := 3) K hl dX4_push_35 rfl rfl ?_
    refine g_iload (i := 4) K hl dX4_push_36 rfl ?_
    refine m_callVP K hl hF (fun t h => w_isCell _ _ _ t h) rfl cp_isCell q2125 rfl rfl rfl rfl rfl dX4_push_38 (fun t1 hF => ?_)
    refine g_if_eq (tgt := 76) K hF dX4_push_41 (by decide) (fun hF => ?_) (fun hF => ?_)
    · exact L76  _ _ _ _ ls hF ha (lq_sub hl rfl)
    · refine g_aload_n (i := 0) K hl dX4_push_44 rfl rfl ?_
      refine g_iload_n (i := 3) K hl dX4_push_45 rfl rfl ?_
      refine g_iload (i := 4) K hl dX4_push_46 rfl ?_
      refine m_callVP K hl hF (fun t h => w_afloat G _ _ _ t h) rfl cp_afloat q2061 rfl rfl rfl rfl rfl dX4_push_48 (fun t2 hF => ?_)
      refine g_if_lt (tgt := 76) K hF dX4_push_51 (by decide) (fun hF => ?_) (fun hF => ?_)
      · exact L76  _ _ _ _ ls hF ha (lq_sub hl rfl)
      · refine g_iload_n (i := 3) K hl dX4_push_54 rfl rfl ?_
        refine g_aload_n (i := 0) K hl dX4_push_55 rfl rfl ?_
        refine mget_68 K dX4_push_56 ?_
        refine g_iadd K dX4_push_59 ?_
        refine g_istore_n (i := 3) K hl dX4_push_60 rfl rfl rfl (fun ls hl => ?_)
        refine g_iload (i := 4) K hl dX4_push_61 rfl ?_
        refine g_aload_n (i := 0) K hl dX4_push_63 rfl rfl ?_
        refine mget_69 K dX4_push_64 ?_
        refine g_iadd K dX4_push_67 ?_
        refine g_istore (i := 4) K hl dX4_push_68 rfl rfl (fun ls hl => ?_)
        refine g_iinc (i := 5) K hl dX4_push_70 rfl lc_1 rfl rfl (fun ls hl => ?_)
        refine g_goto (tgt := 34) K dX4_push_73 (by decide) ?_
        exact hk34 _ _ _ _ ls hF ha (lq_sub hl rfl)
  have L34 : ∀  (n : Nat) (σ : MS) (x3 : Int32) (x4 : Int32) (x5 : Int32) (ls : Array Slot), M_push_L34 G  n σ x3 x4 x5 = some r → ag wr_push σ0 σ → lq ls 8 [(0, some (.ref qm)), (3, some (.int x3)), (4, some (.int x4)), (5, some (.int x5))] → ZM p l e 2 s m args below meth c D cz qm wr_push σ0 none r σ (F0 m 34 ls []) := by
    intro  n
    induction n with
    | zero => intro σ x3 x4 x5 ls hF; exact absurd hF (fun h => by cases h)
    | succ n ih => intro σ x3 x4 x5 ls hF ha hl; exact B34  _ ih _ _ _ _ ls hF ha hl
  have ha : ag wr_push σ0 σ0 := ag.rf
  unfold M_push at hF
  refine g_aload_n (i := 0) K hl dX4_push_0 rfl rfl ?_
  refine g_iload_n (i := 1) K hl dX4_push_1 rfl rfl ?_
  refine g_iload_n (i := 2) K hl dX4_push_2 rfl rfl ?_
  refine m_callVW K hl hF ha rfl (fun t h => w_layWay _ _ _ t h) rfl cp_layWay q2057 rfl rfl rfl rfl rfl dX4_push_3 (fun t2 σ1 hF ha => ?_)
  refine g_if_ne (tgt := 10) K hF dX4_push_6 (by decide) (fun hF => ?_) (fun hF => ?_)
  · refine g_aload_n (i := 0) K hl dX4_push_10 rfl rfl ?_
    refine mget_66 K dX4_push_11 ?_
    refine g_iconst K dX4_push_14 lc_5 ?_
    refine g_iload_n (i := 2) K hl dX4_push_15 rfl rfl ?_
    refine g_imul K dX4_push_16 ?_
    refine mld_66 K hF dX4_push_17 (fun t3 hF => ?_)
    refine g_istore_n (i := 3) K hl dX4_push_18 rfl rfl rfl (fun ls hl => ?_)
    refine g_aload_n (i := 0) K hl dX4_push_19 rfl rfl ?_
    refine mget_66 K dX4_push_20 ?_
    refine g_iconst K dX4_push_23 lc_5 ?_
    refine g_iload_n (i := 2) K hl dX4_push_24 rfl rfl ?_
    refine g_imul K dX4_push_25 ?_
    refine g_iconst K dX4_push_26 lc_1 ?_
    refine g_iadd K dX4_push_27 ?_
    refine mld_66 K hF dX4_push_28 (fun t4 hF => ?_)
    refine g_istore (i := 4) K hl dX4_push_29 rfl rfl (fun ls hl => ?_)
    refine g_iconst K dX4_push_31 lc_0 ?_
    refine g_istore (i := 5) K hl dX4_push_32 rfl rfl (fun ls hl => ?_)
    exact L34  G _ _ _ _ ls hF ha (lq_sub hl rfl)
  · exact m_vretV K hF ha dX4_push_9

theorem cp_spend : cpV yX4_spend cX4_spend 3 none 2 := ⟨q2112, qs116, q152, q2113, by decide +kernel⟩
set_option maxHeartbeats 4000000 in
set_option maxRecDepth 100000 in
theorem w_spend {l : Launch} {D : va_G} {cz : Nat → ClassId} {qm : Nat} (σ0 : MS) (a0 : Int32) (a1 : Int32) (r : MS) (hF : M_spend σ0 a0 a1 = some r) : mMet l D cz qm yX4_spend cX4_spend 3 none 1 wr_spend [.ref qm, .int a0, .int a1] σ0 none r := by
  refine m_of (by decide) rfl ?_
  intro p e s m args below meth c ls K hl
  have ha : ag wr_spend σ0 σ0 := ag.rf
  unfold M_spend at hF
  refine g_aload_n (i := 0) K hl dX4_spend_0 rfl rfl ?_
  refine mget_66 K dX4_spend_1 ?_
  refine g_bipush K dX4_spend_4 lb_50 ?_
  refine g_iconst K dX4_spend_6 lc_3 ?_
  refine g_iload_n (i := 1) K hl dX4_spend_7 rfl rfl ?_
  refine g_imul K dX4_spend_8 ?_
  refine g_iadd K dX4_spend_9 ?_
  refine g_dup2 K dX4_spend_10 rfl rfl ?_
  refine mld_66 K hF dX4_spend_11 (fun t1 hF => ?_)
  refine g_iload_n (i := 2) K hl dX4_spend_12 rfl rfl ?_
  refine m_callSP K hl hF (fun t h => w_takesBreath _ _ t h) cp_takesBreath q2046 rfl rfl rfl rfl rfl dX4_spend_13 (fun t2 hF => ?_)
  refine g_isub K dX4_spend_16 ?_
  refine mst_66 K hF ha rfl dX4_spend_17 (fun σ3 hF ha => ?_)
  refine g_aload_n (i := 0) K hl dX4_spend_18 rfl rfl ?_
  refine mget_66 K dX4_spend_19 ?_
  refine g_bipush K dX4_spend_22 lb_52 ?_
  refine g_iconst K dX4_spend_24 lc_3 ?_
  refine g_iload_n (i := 1) K hl dX4_spend_25 rfl rfl ?_
  refine g_imul K dX4_spend_26 ?_
  refine g_iadd K dX4_spend_27 ?_
  refine g_dup2 K dX4_spend_28 rfl rfl ?_
  refine mld_66 K hF dX4_spend_29 (fun t4 hF => ?_)
  refine g_iload_n (i := 2) K hl dX4_spend_30 rfl rfl ?_
  refine m_callSP K hl hF (fun t h => w_seconds _ _ t h) cp_seconds q2114 rfl rfl rfl rfl rfl dX4_spend_31 (fun t5 hF => ?_)
  refine g_iadd K dX4_spend_34 ?_
  refine mst_66 K hF ha rfl dX4_spend_35 (fun σ6 hF ha => ?_)
  exact m_vretV K hF ha dX4_spend_36

theorem cp_get : cpV yX4_get cX4_get 4 none 3 := ⟨q2108, qs115, q152, q2109, by decide +kernel⟩
set_option maxHeartbeats 4000000 in
set_option maxRecDepth 100000 in
theorem w_get {l : Launch} {D : va_G} {cz : Nat → ClassId} {qm : Nat} (σ0 : MS) (a0 : Int32) (a1 : Int32) (a2 : Int32) (r : MS) (hF : M_get σ0 a0 a1 a2 = some r) : mMet l D cz qm yX4_get cX4_get 4 none 2 wr_get [.ref qm, .int a0, .int a1, .int a2] σ0 none r := by
  refine m_of (by decide) rfl ?_
  intro p e s m args below meth c ls K hl
  have ha : ag wr_get σ0 σ0 := ag.rf
  unfold M_get at hF
  refine g_aload_n (i := 0) K hl dX4_get_0 rfl rfl ?_
  refine g_iload_n (i := 1) K hl dX4_get_1 rfl rfl ?_
  refine g_iload_n (i := 3) K hl dX4_get_2 rfl rfl ?_
  refine m_callVV K hl hF ha rfl (fun t h => w_spend _ _ _ t h) rfl cp_spend q2110 rfl rfl rfl rfl rfl dX4_get_3 (fun σ1 hF ha => ?_)
  refine g_aload_n (i := 0) K hl dX4_get_6 rfl rfl ?_
  refine mget_66 K dX4_get_7 ?_
  refine g_iconst K dX4_get_10 lc_5 ?_
  refine g_iload_n (i := 2) K hl dX4_get_11 rfl rfl ?_
  refine g_imul K dX4_get_12 ?_
  refine g_iconst K dX4_get_13 lc_2 ?_
  refine g_iadd K dX4_get_14 ?_
  refine g_iload_n (i := 1) K hl dX4_get_15 rfl rfl ?_
  refine mst_66 K hF ha rfl dX4_get_16 (fun σ2 hF ha => ?_)
  refine g_aload_n (i := 0) K hl dX4_get_17 rfl rfl ?_
  refine mget_66 K dX4_get_18 ?_
  refine g_bipush K dX4_get_21 lb_51 ?_
  refine g_iconst K dX4_get_23 lc_3 ?_
  refine g_iload_n (i := 1) K hl dX4_get_24 rfl rfl ?_
  refine g_imul K dX4_get_25 ?_
  refine g_iadd K dX4_get_26 ?_
  refine g_dup2 K dX4_get_27 rfl rfl ?_
  refine mld_66 K hF dX4_get_28 (fun t3 hF => ?_)
  refine g_iconst K dX4_get_29 lc_1 ?_
  refine g_iadd K dX4_get_30 ?_
  refine mst_66 K hF ha rfl dX4_get_31 (fun σ4 hF ha => ?_)
  exact m_vretV K hF ha dX4_get_32

theorem cp_miss : cpV yX4_miss cX4_miss 4 none 3 := ⟨q2119, qs117, q152, q2120, by decide +kernel⟩
set_option maxHeartbeats 4000000 in
set_option maxRecDepth 100000 in
theorem w_miss {l : Launch} {D : va_G} {cz : Nat → ClassId} {qm : Nat} (G : Nat) (σ0 : MS) (a0 : Int32) (a1 : Int32) (a2 : Int32) (r : MS) (hF : M_miss G σ0 a0 a1 a2 = some r) : mMet l D cz qm yX4_miss cX4_miss 4 none 3 wr_miss [.ref qm, .int a0, .int a1, .int a2] σ0 none r := by
  refine m_of (by decide) rfl ?_
  intro p e s m args below meth c ls K hl
  have L94 : ∀  (σ : MS) (x1 : Int32) (x2 : Int32) (x3 : Int32) (ls : Array Slot), M_miss_L94 G  σ x1 x2 x3 = some r → ag wr_miss σ0 σ → lq ls 4 [(0, some (.ref qm)), (1, some (.int x1)), (2, some (.int x2)), (3, some (.int x3))] → ZM p l e 3 s m args below meth c D cz qm wr_miss σ0 none r σ (F0 m 94 ls []) := by
    intro  σ x1 x2 x3 ls hF ha hl
    unfold M_miss_L94 at hF
    refine g_iload_n (i := 3) K hl dX4_miss_94 rfl rfl ?_
    refine g_iconst K dX4_miss_95 lc_2 ?_
    refine g_icmp_ge (tgt := 113) K hF dX4_miss_96 (by decide) (fun hF => ?_) (fun hF => ?_)
    · exact m_vretV K hF ha dX4_miss_113
    · refine g_aload_n (i := 0) K hl dX4_miss_99 rfl rfl ?_
      refine g_iload_n (i := 2) K hl dX4_miss_100 rfl rfl ?_
      refine m_callVP K hl hF (fun t h => w_isAfloat _ _ t h) rfl cp_isAfloat q2035 rfl rfl rfl rfl rfl dX4_miss_101 (fun t1 hF => ?_)
      refine g_if_eq (tgt := 113) K hF dX4_miss_104 (by decide) (fun hF => ?_) (fun hF => ?_)
      · exact m_vretV K hF ha dX4_miss_113
      · refine g_aload_n (i := 0) K hl dX4_miss_107 rfl rfl ?_
        refine g_iload_n (i := 1) K hl dX4_miss_108 rfl rfl ?_
        refine g_iload_n (i := 2) K hl dX4_miss_109 rfl rfl ?_
        refine m_callVV K hl hF ha rfl (fun t h => w_push G _ _ _ t h) rfl cp_push q2121 rfl rfl rfl rfl rfl dX4_miss_110 (fun σ2 hF ha => ?_)
        exact m_vretV K hF ha dX4_miss_113
  have L58 : ∀  (σ : MS) (x1 : Int32) (x2 : Int32) (x3 : Int32) (ls : Array Slot), M_miss_L58 G  σ x1 x2 x3 = some r → ag wr_miss σ0 σ → lq ls 4 [(0, some (.ref qm)), (1, some (.int x1)), (2, some (.int x2)), (3, some (.int x3))] → ZM p l e 3 s m args below meth c D cz qm wr_miss σ0 none r σ (F0 m 58 ls []) := by
    intro  σ x1 x2 x3 ls hF ha hl
    unfold M_miss_L58 at hF
    refine g_aload_n (i := 0) K hl dX4_miss_58 rfl rfl ?_
    refine mget_66 K dX4_miss_59 ?_
    refine g_iconst K dX4_miss_62 lc_5 ?_
    refine g_iload_n (i := 2) K hl dX4_miss_63 rfl rfl ?_
    refine g_imul K dX4_miss_64 ?_
    refine g_iconst K dX4_miss_65 lc_4 ?_
    refine g_iadd K dX4_miss_66 ?_
    refine mld_66 K hF dX4_miss_67 (fun t1 hF => ?_)
    refine g_if_gt (tgt := 94) K hF dX4_miss_68 (by decide) (fun hF => ?_) (fun hF => ?_)
    · exact L94  _ _ _ _ ls hF ha (lq_sub hl rfl)
    · refine g_aload_n (i := 0) K hl dX4_miss_71 rfl rfl ?_
      refine mget_66 K dX4_miss_72 ?_
      refine g_iconst K dX4_miss_75 lc_5 ?_
      refine g_iload_n (i := 2) K hl dX4_miss_76 rfl rfl ?_
      refine g_imul K dX4_miss_77 ?_
      refine g_iconst K dX4_miss_78 lc_4 ?_
      refine g_iadd K dX4_miss_79 ?_
      refine g_iconst K dX4_miss_80 lc_0 ?_
      refine mst_66 K hF ha rfl dX4_miss_81 (fun σ2 hF ha => ?_)
      refine g_aload_n (i := 0) K hl dX4_miss_82 rfl rfl ?_
      refine mget_66 K dX4_miss_83 ?_
      refine g_iconst K dX4_miss_86 lc_5 ?_
      refine g_iload_n (i := 2) K hl dX4_miss_87 rfl rfl ?_
      refine g_imul K dX4_miss_88 ?_
      refine g_iconst K dX4_miss_89 lc_2 ?_
      refine g_iadd K dX4_miss_90 ?_
      refine g_bipush K dX4_miss_91 lb_9 ?_
      refine mst_66 K hF ha rfl dX4_miss_93 (fun σ3 hF ha => ?_)
      exact L94  _ _ _ _ ls hF ha (lq_sub hl rfl)
  have ha : ag wr_miss σ0 σ0 := ag.rf
  unfold M_miss at hF
  refine g_aload_n (i := 0) K hl dX4_miss_0 rfl rfl ?_
  refine g_iload_n (i := 1) K hl dX4_miss_1 rfl rfl ?_
  refine g_iload_n (i := 3) K hl dX4_miss_2 rfl rfl ?_
  refine m_callVV K hl hF ha rfl (fun t h => w_spend _ _ _ t h) rfl cp_spend q2110 rfl rfl rfl rfl rfl dX4_miss_3 (fun σ1 hF ha => ?_)
  refine g_aload_n (i := 0) K hl dX4_miss_6 rfl rfl ?_
  refine mget_66 K dX4_miss_7 ?_
  refine g_iconst K dX4_miss_10 lc_5 ?_
  refine g_iload_n (i := 2) K hl dX4_miss_11 rfl rfl ?_
  refine g_imul K dX4_miss_12 ?_
  refine g_iconst K dX4_miss_13 lc_3 ?_
  refine g_iadd K dX4_miss_14 ?_
  refine g_dup2 K dX4_miss_15 rfl rfl ?_
  refine mld_66 K hF dX4_miss_16 (fun t2 hF => ?_)
  refine g_iconst K dX4_miss_17 lc_1 ?_
  refine g_iadd K dX4_miss_18 ?_
  refine mst_66 K hF ha rfl dX4_miss_19 (fun σ3 hF ha => ?_)
  refine g_iload_n (i := 3) K hl dX4_miss_20 rfl rfl ?_
  refine g_if_ne (tgt := 58) K hF dX4_miss_21 (by decide) (fun hF => ?_) (fun hF => ?_)
  · exact L58  _ _ _ _ ls hF ha (lq_sub hl rfl)
  · refine g_aload_n (i := 0) K hl dX4_miss_24 rfl rfl ?_
    refine mget_38 K dX4_miss_25 ?_
    refine g_iload_n (i := 2) K hl dX4_miss_28 rfl rfl ?_
    refine mld_38 K hF dX4_miss_29 (fun t4 hF => ?_)
    refine g_aload_n (i := 0) K hl dX4_miss_30 rfl rfl ?_
    refine mget_65 K dX4_miss_31 ?_
    refine g_icmp_lt (tgt := 58) K hF dX4_miss_34 (by decide) (fun hF => ?_) (fun hF => ?_)
    · exact L58  _ _ _ _ ls hF ha (lq_sub hl rfl)
    · refine g_aload_n (i := 0) K hl dX4_miss_37 rfl rfl ?_
      refine mget_66 K dX4_miss_38 ?_
      refine g_iconst K dX4_miss_41 lc_5 ?_
      refine g_iload_n (i := 2) K hl dX4_miss_42 rfl rfl ?_
      refine g_imul K dX4_miss_43 ?_
      refine g_iconst K dX4_miss_44 lc_4 ?_
      refine g_iadd K dX4_miss_45 ?_
      refine g_dup2 K dX4_miss_46 rfl rfl ?_
      refine mld_66 K hF dX4_miss_47 (fun t5 hF => ?_)
      refine g_aload_n (i := 0) K hl dX4_miss_48 rfl rfl ?_
      refine mget_46 K dX4_miss_49 ?_
      refine g_iload_n (i := 1) K hl dX4_miss_52 rfl rfl ?_
      refine mld_46 K hF dX4_miss_53 (fun t6 hF => ?_)
      refine g_iconst K dX4_miss_54 lc_1 ?_
      refine g_iadd K dX4_miss_55 ?_
      refine g_isub K dX4_miss_56 ?_
      refine mst_66 K hF ha rfl dX4_miss_57 (fun σ7 hF ha => ?_)
      exact L58  _ _ _ _ ls hF ha (lq_sub hl rfl)
