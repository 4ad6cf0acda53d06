/-! walks of the model: printed by genm.py -/
theorem cp_four : cpV yX4_four cX4_four 3 none 1 := ⟨q1800, qs60, q152, q1801, by decide +kernel⟩
set_option maxHeartbeats 4000000 in
set_option maxRecDepth 100000 in
theorem w_four {l : Launch} {D : va_G} {cz : Nat → ClassId} {qm : Nat} (G : Nat) (σ0 : MS) (a0 : Int32) (r : MS) (hF : M_four G σ0 a0 = some r) : mMet l D cz qm yX4_four cX4_four 3 none 0 wr_four [.ref qm, .int a0] σ0 none r := by
  refine m_of (by decide) rfl ?_
  intro p e s m args below meth c ls K hl
  have B3 : ∀ (k3 : MS → Int32 → Int32 → Option MS) (hk3 : (∀ (σ : MS) (x1 : Int32) (x2 : Int32) (ls : Array Slot), k3 σ x1 x2 = some r → ag wr_four σ0 σ → lq ls 3 [(0, some (.ref qm)), (1, some (.int x1)), (2, some (.int x2))] → ZM p l e 0 s m args below meth c D cz qm wr_four σ0 none r σ (F0 m 3 ls []))) (σ : MS) (x1 : Int32) (x2 : Int32) (ls : Array Slot), M_four_B3 G k3 σ x1 x2 = some r → ag wr_four σ0 σ → lq ls 3 [(0, some (.ref qm)), (1, some (.int x1)), (2, some (.int x2))] → ZM p l e 0 s m args below meth c D cz qm wr_four σ0 none r σ (F0 m 3 ls []) := by
    intro k3 hk3 σ x1 x2 ls hF ha hl
    unfold M_four_B3 at hF
    refine g_iload_n (i := 2) K hl dX4_four_3 rfl rfl ?_
    refine g_if_lt (tgt := 39) K hF dX4_four_4 (by decide) (fun hF => ?_) (fun hF => ?_)
    · exact m_vretV K hF ha dX4_four_39
    · refine g_aload_n (i := 0) K hl dX4_four_7 rfl rfl ?_
      refine mget_0 K dX4_four_8 ?_
      refine g_aload_n (i := 0) K hl dX4_four_11 rfl rfl ?_
      refine mget_1 K dX4_four_12 ?_
      refine g_iload_n (i := 1) K hl dX4_four_15 rfl rfl ?_
      refine g_iload_n (i := 2) K hl dX4_four_16 rfl rfl ?_
      refine g_ishr K dX4_four_17 ?_
      refine g_sipush K dX4_four_18 ls_255 ?_
      refine g_iand K dX4_four_21 ?_
      refine mst_0 K hF ha rfl dX4_four_22 (fun σ1 hF ha => ?_)
      refine g_aload_n (i := 0) K hl dX4_four_23 rfl rfl ?_
      refine g_dup K dX4_four_24 rfl ?_
      refine mget_1 K dX4_four_25 ?_
      refine g_iconst K dX4_four_28 lc_1 ?_
      refine g_iadd K dX4_four_29 ?_
      refine mput_1 K hF ha rfl dX4_four_30 (fun σ2 hF ha => ?_)
      refine g_iinc (i := 2) K hl dX4_four_33 rfl lc_m8 rfl rfl (fun ls hl => ?_)
      refine g_goto (tgt := 3) K dX4_four_36 (by decide) ?_
      exact hk3 _ _ _ ls hF ha (lq_sub hl rfl)
  have L3 : ∀  (n : Nat) (σ : MS) (x1 : Int32) (x2 : Int32) (ls : Array Slot), M_four_L3 G  n σ x1 x2 = some r → ag wr_four σ0 σ → lq ls 3 [(0, some (.ref qm)), (1, some (.int x1)), (2, some (.int x2))] → ZM p l e 0 s m args below meth c D cz qm wr_four σ0 none r σ (F0 m 3 ls []) := by
    intro  n
    induction n with
    | zero => intro σ x1 x2 ls hF; exact absurd hF (fun h => by cases h)
    | succ n ih => intro σ x1 x2 ls hF ha hl; exact B3  _ ih _ _ _ ls hF ha hl
  have ha : ag wr_four σ0 σ0 := ag.rf
  unfold M_four at hF
  refine g_bipush K dX4_four_0 lb_24 ?_
  refine g_istore_n (i := 2) K hl dX4_four_2 rfl rfl rfl (fun ls hl => ?_)
  exact L3  G _ _ _ ls hF ha (lq_sub hl rfl)

theorem cp_feed : cpV yX4_feed cX4_feed 6 (some .int) 5 := ⟨q1795, q1796, q152, q1797, by decide +kernel⟩
set_option maxHeartbeats 4000000 in
set_option maxRecDepth 100000 in
theorem w_feed {l : Launch} {D : va_G} {cz : Nat → ClassId} {qm : Nat} (G : Nat) (σ0 : MS) (a0 : Int32) (a1 : Int32) (a2 : Int32) (a3 : Int32) (a4 : Int32) (r : (Int32 × MS)) (hF : M_feed G σ0 a0 a1 a2 a3 a4 = some r) : mMet l D cz qm yX4_feed cX4_feed 6 (some .int) 1 wr_feed [.ref qm, .int a0, .int a1, .int a2, .int a3, .int a4] σ0 (some (.int r.1)) r.2 := by
  refine m_of (by decide) rfl ?_
  intro p e s m args below meth c ls K hl
  have ha : ag wr_feed σ0 σ0 := ag.rf
  unfold M_feed at hF
  refine g_aload_n (i := 0) K hl dX4_feed_0 rfl rfl ?_
  refine mget_1 K dX4_feed_1 ?_
  refine g_bipush K dX4_feed_4 lb_20 ?_
  refine g_iadd K dX4_feed_6 ?_
  refine g_sipush K dX4_feed_7 ls_1600 ?_
  refine g_icmp_le (tgt := 15) K hF dX4_feed_10 (by decide) (fun hF => ?_) (fun hF => ?_)
  · refine g_aload_n (i := 0) K hl dX4_feed_15 rfl rfl ?_
    refine g_iload_n (i := 1) K hl dX4_feed_16 rfl rfl ?_
    refine m_callVV K hl hF ha rfl (fun t h => w_four G _ _ t h) rfl cp_four q1798 rfl rfl rfl rfl rfl dX4_feed_17 (fun σ1 hF ha => ?_)
    refine g_aload_n (i := 0) K hl dX4_feed_20 rfl rfl ?_
    refine g_iload_n (i := 2) K hl dX4_feed_21 rfl rfl ?_
    refine m_callVV K hl hF ha rfl (fun t h => w_four G _ _ t h) rfl cp_four q1798 rfl rfl rfl rfl rfl dX4_feed_22 (fun σ2 hF ha => ?_)
    refine g_aload_n (i := 0) K hl dX4_feed_25 rfl rfl ?_
    refine g_iload_n (i := 3) K hl dX4_feed_26 rfl rfl ?_
    refine m_callVV K hl hF ha rfl (fun t h => w_four G _ _ t h) rfl cp_four q1798 rfl rfl rfl rfl rfl dX4_feed_27 (fun σ3 hF ha => ?_)
    refine g_aload_n (i := 0) K hl dX4_feed_30 rfl rfl ?_
    refine g_iload (i := 4) K hl dX4_feed_31 rfl ?_
    refine m_callVV K hl hF ha rfl (fun t h => w_four G _ _ t h) rfl cp_four q1798 rfl rfl rfl rfl rfl dX4_feed_33 (fun σ4 hF ha => ?_)
    refine g_aload_n (i := 0) K hl dX4_feed_36 rfl rfl ?_
    refine g_iload (i := 5) K hl dX4_feed_37 rfl ?_
    refine m_callVV K hl hF ha rfl (fun t h => w_four G _ _ t h) rfl cp_four q1798 rfl rfl rfl rfl rfl dX4_feed_39 (fun σ5 hF ha => ?_)
    refine g_aload_n (i := 0) K hl dX4_feed_42 rfl rfl ?_
    refine mget_1 K dX4_feed_43 ?_
    exact m_iretW K hF ha dX4_feed_46
  · refine g_iconst K dX4_feed_13 lc_m1 ?_
    exact m_iretW K hF ha dX4_feed_14

theorem cp_end : cpV yX4_end cX4_end 2 (some .int) 1 := ⟨q1803, q1804, q152, q1805, by decide +kernel⟩
set_option maxHeartbeats 4000000 in
set_option maxRecDepth 100000 in
theorem w_end {l : Launch} {D : va_G} {cz : Nat → ClassId} {qm : Nat} (σ0 : MS) (a0 : Int32) (r : (Int32 × MS)) (hF : M_end σ0 a0 = some r) : mMet l D cz qm yX4_end cX4_end 2 (some .int) 0 wr_end [.ref qm, .int a0] σ0 (some (.int r.1)) r.2 := by
  refine m_of (by decide) rfl ?_
  intro p e s m args below meth c ls K hl
  have ha : ag wr_end σ0 σ0 := ag.rf
  unfold M_end at hF
  refine g_iload_n (i := 1) K hl dX4_end_0 rfl rfl ?_
  refine g_if_lt (tgt := 12) K hF dX4_end_1 (by decide) (fun hF => ?_) (fun hF => ?_)
  · refine g_iconst K dX4_end_12 lc_m1 ?_
    exact m_iretW K hF ha dX4_end_13
  · refine g_iload_n (i := 1) K hl dX4_end_4 rfl rfl ?_
    refine g_aload_n (i := 0) K hl dX4_end_5 rfl rfl ?_
    refine mget_1 K dX4_end_6 ?_
    refine g_icmp_le (tgt := 14) K hF dX4_end_9 (by decide) (fun hF => ?_) (fun hF => ?_)
    · refine g_aload_n (i := 0) K hl dX4_end_14 rfl rfl ?_
      refine g_iload_n (i := 1) K hl dX4_end_15 rfl rfl ?_
      refine mput_1 K hF ha rfl dX4_end_16 (fun σ1 hF ha => ?_)
      refine g_iload_n (i := 1) K hl dX4_end_19 rfl rfl ?_
      exact m_iretW K hF ha dX4_end_20
    · refine g_iconst K dX4_end_12 lc_m1 ?_
      exact m_iretW K hF ha dX4_end_13

theorem cp_here : cpV yX4_here cX4_here 2 (some .int) 1 := ⟨q1820, qs63, q152, q1821, by decide +kernel⟩
set_option maxHeartbeats 4000000 in
set_option maxRecDepth 100000 in
theorem w_here {l : Launch} {D : va_G} {cz : Nat → ClassId} {qm : Nat} (σ0 : MS) (a0 : Int32) (r : Int32) (hF : M_here σ0 a0 = some r) : mMet l D cz qm yX4_here cX4_here 2 (some .int) 0 wr_here [.ref qm, .int a0] σ0 (some (.int r)) σ0 := by
  refine m_of (by decide) rfl ?_
  intro p e s m args below meth c ls K hl
  unfold M_here at hF
  refine g_aload_n (i := 0) K hl dX4_here_0 rfl rfl ?_
  refine mget_4 K dX4_here_1 ?_
  refine g_iload_n (i := 1) K hl dX4_here_4 rfl rfl ?_
  refine g_iadd K dX4_here_5 ?_
  refine g_aload_n (i := 0) K hl dX4_here_6 rfl rfl ?_
  refine mget_5 K dX4_here_7 ?_
  refine g_icmp_ge (tgt := 27) K hF dX4_here_10 (by decide) (fun hF => ?_) (fun hF => ?_)
  · refine g_iconst K dX4_here_27 lc_m1 ?_
    exact m_iretP K hF ag.rf dX4_here_28
  · refine g_aload_n (i := 0) K hl dX4_here_13 rfl rfl ?_
    refine mget_0 K dX4_here_14 ?_
    refine g_aload_n (i := 0) K hl dX4_here_17 rfl rfl ?_
    refine mget_4 K dX4_here_18 ?_
    refine g_iload_n (i := 1) K hl dX4_here_21 rfl rfl ?_
    refine g_iadd K dX4_here_22 ?_
    refine mld_0 K hF dX4_here_23 (fun t1 hF => ?_)
    refine g_goto (tgt := 28) K dX4_here_24 (by decide) ?_
    exact m_iretP K hF ag.rf dX4_here_28

theorem cp_isLetter : cpS yX4_isLetter cX4_isLetter 1 (some .boolean) 1 := ⟨q1823, q152, q1824, by decide +kernel⟩
set_option maxHeartbeats 4000000 in
set_option maxRecDepth 100000 in
theorem w_isLetter {l : Launch} {D : va_G} {cz : Nat → ClassId} {qm : Nat} (σ0 : MS) (a0 : Int32) (r : Int32) (hF : M_isLetter a0 = some r) : mMet l D cz qm yX4_isLetter cX4_isLetter 1 (some .boolean) 0 wr_isLetter [.int a0] σ0 (some (.int r)) σ0 := by
  refine m_of (by decide) rfl ?_
  intro p e s m args below meth c ls K hl
  unfold M_isLetter at hF
  refine g_iload_n (i := 0) K hl dX4_isLetter_0 rfl rfl ?_
  refine g_bipush K dX4_isLetter_1 lb_97 ?_
  refine g_icmp_lt (tgt := 16) K hF dX4_isLetter_3 (by decide) (fun hF => ?_) (fun hF => ?_)
  · refine g_iconst K dX4_isLetter_16 lc_0 ?_
    exact m_zretP K hF (Or.inl rfl) ag.rf dX4_isLetter_17
  · refine g_iload_n (i := 0) K hl dX4_isLetter_6 rfl rfl ?_
    refine g_bipush K dX4_isLetter_7 lb_122 ?_
    refine g_icmp_gt (tgt := 16) K hF dX4_isLetter_9 (by decide) (fun hF => ?_) (fun hF => ?_)
    · refine g_iconst K dX4_isLetter_16 lc_0 ?_
      exact m_zretP K hF (Or.inl rfl) ag.rf dX4_isLetter_17
    · refine g_iconst K dX4_isLetter_12 lc_1 ?_
      refine g_goto (tgt := 17) K dX4_isLetter_13 (by decide) ?_
      exact m_zretP K hF (Or.inr rfl) ag.rf dX4_isLetter_17

theorem cp_isDigit : cpS yX4_isDigit cX4_isDigit 1 (some .boolean) 1 := ⟨q1826, q152, q1827, by decide +kernel⟩
set_option maxHeartbeats 4000000 in
set_option maxRecDepth 100000 in
theorem w_isDigit {l : Launch} {D : va_G} {cz : Nat → ClassId} {qm : Nat} (σ0 : MS) (a0 : Int32) (r : Int32) (hF : M_isDigit a0 = some r) : mMet l D cz qm yX4_isDigit cX4_isDigit 1 (some .boolean) 0 wr_isDigit [.int a0] σ0 (some (.int r)) σ0 := by
  refine m_of (by decide) rfl ?_
  intro p e s m args below meth c ls K hl
  unfold M_isDigit at hF
  refine g_iload_n (i := 0) K hl dX4_isDigit_0 rfl rfl ?_
  refine g_bipush K dX4_isDigit_1 lb_48 ?_
  refine g_icmp_lt (tgt := 16) K hF dX4_isDigit_3 (by decide) (fun hF => ?_) (fun hF => ?_)
  · refine g_iconst K dX4_isDigit_16 lc_0 ?_
    exact m_zretP K hF (Or.inl rfl) ag.rf dX4_isDigit_17
  · refine g_iload_n (i := 0) K hl dX4_isDigit_6 rfl rfl ?_
    refine g_bipush K dX4_isDigit_7 lb_57 ?_
    refine g_icmp_gt (tgt := 16) K hF dX4_isDigit_9 (by decide) (fun hF => ?_) (fun hF => ?_)
    · refine g_iconst K dX4_isDigit_16 lc_0 ?_
      exact m_zretP K hF (Or.inl rfl) ag.rf dX4_isDigit_17
    · refine g_iconst K dX4_isDigit_12 lc_1 ?_
      refine g_goto (tgt := 17) K dX4_isDigit_13 (by decide) ?_
      exact m_zretP K hF (Or.inr rfl) ag.rf dX4_isDigit_17

theorem cp_isSign : cpS yX4_isSign cX4_isSign 1 (some .boolean) 1 := ⟨q1829, q152, q1830, by decide +kernel⟩
set_option maxHeartbeats 4000000 in
set_option maxRecDepth 100000 in
theorem w_isSign {l : Launch} {D : va_G} {cz : Nat → ClassId} {qm : Nat} (σ0 : MS) (a0 : Int32) (r : Int32) (hF : M_isSign a0 = some r) : mMet l D cz qm yX4_isSign cX4_isSign 1 (some .boolean) 0 wr_isSign [.int a0] σ0 (some (.int r)) σ0 := by
  refine m_of (by decide) rfl ?_
  intro p e s m args below meth c ls K hl
  unfold M_isSign at hF
  refine g_iload_n (i := 0) K hl dX4_isSign_0 rfl rfl ?_
  refine g_bipush K dX4_isSign_1 lb_59 ?_
  refine g_icmp_eq (tgt := 66) K hF dX4_isSign_3 (by decide) (fun hF => ?_) (fun hF => ?_)
  · refine g_iconst K dX4_isSign_66 lc_1 ?_
    refine g_goto (tgt := 71) K dX4_isSign_67 (by decide) ?_
    exact m_zretP K hF (Or.inr rfl) ag.rf dX4_isSign_71
  · refine g_iload_n (i := 0) K hl dX4_isSign_6 rfl rfl ?_
    refine g_bipush K dX4_isSign_7 lb_40 ?_
    refine g_icmp_eq (tgt := 66) K hF dX4_isSign_9 (by decide) (fun hF => ?_) (fun hF => ?_)
    · refine g_iconst K dX4_isSign_66 lc_1 ?_
      refine g_goto (tgt := 71) K dX4_isSign_67 (by decide) ?_
      exact m_zretP K hF (Or.inr rfl) ag.rf dX4_isSign_71
    · refine g_iload_n (i := 0) K hl dX4_isSign_12 rfl rfl ?_
      refine g_bipush K dX4_isSign_13 lb_41 ?_
      refine g_icmp_eq (tgt := 66) K hF dX4_isSign_15 (by decide) (fun hF => ?_) (fun hF => ?_)
      · refine g_iconst K dX4_isSign_66 lc_1 ?_
        refine g_goto (tgt := 71) K dX4_isSign_67 (by decide) ?_
        exact m_zretP K hF (Or.inr rfl) ag.rf dX4_isSign_71
      · refine g_iload_n (i := 0) K hl dX4_isSign_18 rfl rfl ?_
        refine g_bipush K dX4_isSign_19 lb_60 ?_
        refine g_icmp_eq (tgt := 66) K hF dX4_isSign_21 (by decide) (fun hF => ?_) (fun hF => ?_)
        · refine g_iconst K dX4_isSign_66 lc_1 ?_
          refine g_goto (tgt := 71) K dX4_isSign_67 (by decide) ?_
          exact m_zretP K hF (Or.inr rfl) ag.rf dX4_isSign_71
        · refine g_iload_n (i := 0) K hl dX4_isSign_24 rfl rfl ?_
          refine g_bipush K dX4_isSign_25 lb_62 ?_
          refine g_icmp_eq (tgt := 66) K hF dX4_isSign_27 (by decide) (fun hF => ?_) (fun hF => ?_)
          · refine g_iconst K dX4_isSign_66 lc_1 ?_
            refine g_goto (tgt := 71) K dX4_isSign_67 (by decide) ?_
            exact m_zretP K hF (Or.inr rfl) ag.rf dX4_isSign_71
          · refine g_iload_n (i := 0) K hl dX4_isSign_30 rfl rfl ?_
            refine g_bipush K dX4_isSign_31 lb_61 ?_
            refine g_icmp_eq (tgt := 66) K hF dX4_isSign_33 (by decide) (fun hF => ?_) (fun hF => ?_)
            · refine g_iconst K dX4_isSign_66 lc_1 ?_
              refine g_goto (tgt := 71) K dX4_isSign_67 (by decide) ?_
              exact m_zretP K hF (Or.inr rfl) ag.rf dX4_isSign_71
            · refine g_iload_n (i := 0) K hl dX4_isSign_36 rfl rfl ?_
              refine g_bipush K dX4_isSign_37 lb_43 ?_
              refine g_icmp_eq (tgt := 66) K hF dX4_isSign_39 (by decide) (fun hF => ?_) (fun hF => ?_)
              · refine g_iconst K dX4_isSign_66 lc_1 ?_
                refine g_goto (tgt := 71) K dX4_isSign_67 (by decide) ?_
                exact m_zretP K hF (Or.inr rfl) ag.rf dX4_isSign_71
              · refine g_iload_n (i := 0) K hl dX4_isSign_42 rfl rfl ?_
                refine g_bipush K dX4_isSign_43 lb_45 ?_
                refine g_icmp_eq (tgt := 66) K hF dX4_isSign_45 (by decide) (fun hF => ?_) (fun hF => ?_)
                · refine g_iconst K dX4_isSign_66 lc_1 ?_
                  refine g_goto (tgt := 71) K dX4_isSign_67 (by decide) ?_
                  exact m_zretP K hF (Or.inr rfl) ag.rf dX4_isSign_71
                · refine g_iload_n (i := 0) K hl dX4_isSign_48 rfl rfl ?_
                  refine g_bipush K dX4_isSign_49 lb_42 ?_
                  refine g_icmp_eq (tgt := 66) K hF dX4_isSign_51 (by decide) (fun hF => ?_) (fun hF => ?_)
                  · refine g_iconst K dX4_isSign_66 lc_1 ?_
                    refine g_goto (tgt := 71) K dX4_isSign_67 (by decide) ?_
                    exact m_zretP K hF (Or.inr rfl) ag.rf dX4_isSign_71
                  · refine g_iload_n (i := 0) K hl dX4_isSign_54 rfl rfl ?_
                    refine g_bipush K dX4_isSign_55 lb_47 ?_
                    refine g_icmp_eq (tgt := 66) K hF dX4_isSign_57 (by decide) (fun hF => ?_) (fun hF => ?_)
                    · refine g_iconst K dX4_isSign_66 lc_1 ?_
                      refine g_goto (tgt := 71) K dX4_isSign_67 (by decide) ?_
                      exact m_zretP K hF (Or.inr rfl) ag.rf dX4_isSign_71
                    · refine g_iload_n (i := 0) K hl dX4_isSign_60 rfl rfl ?_
                      refine g_bipush K dX4_isSign_61 lb_37 ?_
                      refine g_icmp_ne (tgt := 70) K hF dX4_isSign_63 (by decide) (fun hF => ?_) (fun hF => ?_)
                      · refine g_iconst K dX4_isSign_70 lc_0 ?_
                        exact m_zretP K hF (Or.inl rfl) ag.rf dX4_isSign_71
                      · refine g_iconst K dX4_isSign_66 lc_1 ?_
                        refine g_goto (tgt := 71) K dX4_isSign_67 (by decide) ?_
                        exact m_zretP K hF (Or.inr rfl) ag.rf dX4_isSign_71

theorem cp_token : cpV yX4_token cX4_token 3 none 0 := ⟨q1816, qs62, q152, q1817, by decide +kernel⟩
set_option maxHeartbeats 4000000 in
set_option maxRecDepth 100000 in
theorem w_token {l : Launch} {D : va_G} {cz : Nat → ClassId} {qm : Nat} (G : Nat) (σ0 : MS)  (r : MS) (hF : M_token G σ0 = some r) : mMet l D cz qm yX4_token cX4_token 3 none 1 wr_token [.ref qm] σ0 none r := by
  refine m_of (by decide) rfl ?_
  intro p e s m args below meth c ls K hl
  have L232 : ∀  (σ : MS) (x2 : Int32) (ls : Array Slot), M_token_L232 G  σ x2 = some r → ag wr_token σ0 σ → lq ls 3 [(0, some (.ref qm)), (2, some (.int x2))] → ZM p l e 1 s m args below meth c D cz qm wr_token σ0 none r σ (F0 m 232 ls []) := by
    intro  σ x2 ls hF ha hl
    unfold M_token_L232 at hF
    refine g_aload_n (i := 0) K hl dX4_token_232 rfl rfl ?_
    refine mget_6 K dX4_token_233 ?_
    refine g_iconst K dX4_token_236 lc_3 ?_
    refine g_icmp_eq (tgt := 250) K hF dX4_token_237 (by decide) (fun hF => ?_) (fun hF => ?_)
    · exact m_vretV K hF ha dX4_token_250
    · refine g_aload_n (i := 0) K hl dX4_token_240 rfl rfl ?_
      refine g_dup K dX4_token_241 rfl ?_
      refine mget_4 K dX4_token_242 ?_
      refine g_iload_n (i := 2) K hl dX4_token_245 rfl rfl ?_
      refine g_iadd K dX4_token_246 ?_
      refine mput_4 K hF ha rfl dX4_token_247 (fun σ1 hF ha => ?_)
      exact m_vretV K hF ha dX4_token_250
  have L229 : ∀  (σ : MS) (x2 : Int32) (s1 : Int32) (ls : Array Slot), M_token_L229 G  σ x2 s1 = some r → ag wr_token σ0 σ → lq ls 3 [(0, some (.ref qm)), (2, some (.int x2))] → ZM p l e 1 s m args below meth c D cz qm wr_token σ0 none r σ (F0 m 229 ls [.int s1, .ref qm]) := by
    intro  σ x2 s1 ls hF ha hl
    unfold M_token_L229 at hF
    refine mput_6 K hF ha rfl dX4_token_229 (fun σ1 hF ha => ?_)
    exact L232  _ _ ls hF ha (lq_sub hl rfl)
  have L208 : ∀  (σ : MS) (x2 : Int32) (s1 : Int32) (ls : Array Slot), M_token_L208 G  σ x2 s1 = some r → ag wr_token σ0 σ → lq ls 3 [(0, some (.ref qm)), (2, some (.int x2))] → ZM p l e 1 s m args below meth c D cz qm wr_token σ0 none r σ (F0 m 208 ls [.int s1, .ref qm]) := by
    intro  σ x2 s1 ls hF ha hl
    unfold M_token_L208 at hF
    refine mput_6 K hF ha rfl dX4_token_208 (fun σ1 hF ha => ?_)
    refine g_goto (tgt := 232) K dX4_token_211 (by decide) ?_
    exact L232  _ _ ls hF ha (lq_sub hl rfl)
  have L203 : ∀  (σ : MS) (x2 : Int32) (ls : Array Slot), M_token_L203 G  σ x2 = some r → ag wr_token σ0 σ → lq ls 3 [(0, some (.ref qm)), (2, some (.int x2))] → ZM p l e 1 s m args below meth c D cz qm wr_token σ0 none r σ (F0 m 203 ls [.ref qm]) := by
    intro  σ x2 ls hF ha hl
    unfold M_token_L203 at hF
    refine g_iconst K dX4_token_203 lc_3 ?_
    refine g_goto (tgt := 208) K dX4_token_204 (by decide) ?_
    exact L208  _ _ _ ls hF ha (lq_sub hl rfl)
  have B144 : ∀ (k144 : MS → Int32 → Option MS) (hk144 : (∀ (σ : MS) (x2 : Int32) (ls : Array Slot), k144 σ x2 = some r → ag wr_token σ0 σ → lq ls 3 [(0, some (.ref qm)), (2, some (.int x2))] → ZM p l e 1 s m args below meth c D cz qm wr_token σ0 none r σ (F0 m 144 ls []))) (σ : MS) (x2 : Int32) (ls : Array Slot), M_token_B144 G k144 σ x2 = some r → ag wr_token σ0 σ → lq ls 3 [(0, some (.ref qm)), (2, some (.int x2))] → ZM p l e 1 s m args below meth c D cz qm wr_token σ0 none r σ (F0 m 144 ls []) := by
    intro k144 hk144 σ x2 ls hF ha hl
    unfold M_token_B144 at hF
    refine g_aload_n (i := 0) K hl dX4_token_144 rfl rfl ?_
    refine g_iload_n (i := 2) K hl dX4_token_145 rfl rfl ?_
    refine m_callVP K hl hF (fun t h => w_here _ _ t h) rfl cp_here q1818 rfl rfl rfl rfl rfl dX4_token_146 (fun t1 hF => ?_)
    refine m_callSP K hl hF (fun t h => w_isDigit _ _ t h) cp_isDigit q1825 rfl rfl rfl rfl rfl dX4_token_149 (fun t2 hF => ?_)
    refine g_if_eq (tgt := 186) K hF dX4_token_152 (by decide) (fun hF => ?_) (fun hF => ?_)
    · refine g_aload_n (i := 0) K hl dX4_token_186 rfl rfl ?_
      refine g_iload_n (i := 2) K hl dX4_token_187 rfl rfl ?_
      refine g_iconst K dX4_token_188 lc_4 ?_
      refine g_icmp_gt (tgt := 203) K hF dX4_token_189 (by decide) (fun hF => ?_) (fun hF => ?_)
      · exact L203  _ _ ls hF ha (lq_sub hl rfl)
      · refine g_aload_n (i := 0) K hl dX4_token_192 rfl rfl ?_
        refine g_iload_n (i := 2) K hl dX4_token_193 rfl rfl ?_
        refine m_callVP K hl hF (fun t h => w_here _ _ t h) rfl cp_here q1818 rfl rfl rfl rfl rfl dX4_token_194 (fun t3 hF => ?_)
        refine m_callSP K hl hF (fun t h => w_isLetter _ _ t h) cp_isLetter q1822 rfl rfl rfl rfl rfl dX4_token_197 (fun t4 hF => ?_)
        refine g_if_eq (tgt := 207) K hF dX4_token_200 (by decide) (fun hF => ?_) (fun hF => ?_)
        · refine g_iconst K dX4_token_207 lc_2 ?_
          exact L208  _ _ _ ls hF ha (lq_sub hl rfl)
        · exact L203  _ _ ls hF ha (lq_sub hl rfl)
    · refine g_iload_n (i := 2) K hl dX4_token_155 rfl rfl ?_
      refine g_iconst K dX4_token_156 lc_4 ?_
      refine g_icmp_ge (tgt := 180) K hF dX4_token_157 (by decide) (fun hF => ?_) (fun hF => ?_)
      · refine g_iinc (i := 2) K hl dX4_token_180 rfl lc_1 rfl rfl (fun ls hl => ?_)
        refine g_goto (tgt := 144) K dX4_token_183 (by decide) ?_
        exact hk144 _ _ ls hF ha (lq_sub hl rfl)
      · refine g_aload_n (i := 0) K hl dX4_token_160 rfl rfl ?_
        refine g_bipush K dX4_token_161 lb_10 ?_
        refine g_aload_n (i := 0) K hl dX4_token_163 rfl rfl ?_
        refine mget_8 K dX4_token_164 ?_
        refine g_imul K dX4_token_167 ?_
        refine g_aload_n (i := 0) K hl dX4_token_168 rfl rfl ?_
        refine g_iload_n (i := 2) K hl dX4_token_169 rfl rfl ?_
        refine m_callVP K hl hF (fun t h => w_here _ _ t h) rfl cp_here q1818 rfl rfl rfl rfl rfl dX4_token_170 (fun t5 hF => ?_)
        refine g_iadd K dX4_token_173 ?_
        refine g_bipush K dX4_token_174 lb_48 ?_
        refine g_isub K dX4_token_176 ?_
        refine mput_8 K hF ha rfl dX4_token_177 (fun σ6 hF ha => ?_)
        refine g_iinc (i := 2) K hl dX4_token_180 rfl lc_1 rfl rfl (fun ls hl => ?_)
        refine g_goto (tgt := 144) K dX4_token_183 (by decide) ?_
        exact hk144 _ _ ls hF ha (lq_sub hl rfl)
  have L144 : ∀  (n : Nat) (σ : MS) (x2 : Int32) (ls : Array Slot), M_token_L144 G  n σ x2 = some r → ag wr_token σ0 σ → lq ls 3 [(0, some (.ref qm)), (2, some (.int x2))] → ZM p l e 1 s m args below meth c D cz qm wr_token σ0 none r σ (F0 m 144 ls []) := by
    intro  n
    induction n with
    | zero => intro σ x2 ls hF; exact absurd hF (fun h => by cases h)
    | succ n ih => intro σ x2 ls hF ha hl; exact B144  _ ih _ _ ls hF ha hl
  have L131 : ∀  (σ : MS) (x2 : Int32) (s1 : Int32) (ls : Array Slot), M_token_L131 G  σ x2 s1 = some r → ag wr_token σ0 σ → lq ls 3 [(0, some (.ref qm)), (2, some (.int x2))] → ZM p l e 1 s m args below meth c D cz qm wr_token σ0 none r σ (F0 m 131 ls [.int s1, .ref qm]) := by
    intro  σ x2 s1 ls hF ha hl
    unfold M_token_L131 at hF
    refine mput_6 K hF ha rfl dX4_token_131 (fun σ1 hF ha => ?_)
    refine g_goto (tgt := 232) K dX4_token_134 (by decide) ?_
    exact L232  _ _ ls hF ha (lq_sub hl rfl)
  have B78 : ∀ (k78 : MS → Int32 → Option MS) (hk78 : (∀ (σ : MS) (x2 : Int32) (ls : Array Slot), k78 σ x2 = some r → ag wr_token σ0 σ → lq ls 3 [(0, some (.ref qm)), (2, some (.int x2))] → ZM p l e 1 s m args below meth c D cz qm wr_token σ0 none r σ (F0 m 78 ls []))) (σ : MS) (x2 : Int32) (ls : Array Slot), M_token_B78 G k78 σ x2 = some r → ag wr_token σ0 σ → lq ls 3 [(0, some (.ref qm)), (2, some (.int x2))] → ZM p l e 1 s m args below meth c D cz qm wr_token σ0 none r σ (F0 m 78 ls []) := by
    intro k78 hk78 σ x2 ls hF ha hl
    unfold M_token_B78 at hF
    refine g_aload_n (i := 0) K hl dX4_token_78 rfl rfl ?_
    refine g_iload_n (i := 2) K hl dX4_token_79 rfl rfl ?_
    refine m_callVP K hl hF (fun t h => w_here _ _ t h) rfl cp_here q1818 rfl rfl rfl rfl rfl dX4_token_80 (fun t1 hF => ?_)
    refine m_callSP K hl hF (fun t h => w_isLetter _ _ t h) cp_isLetter q1822 rfl rfl rfl rfl rfl dX4_token_83 (fun t2 hF => ?_)
    refine g_if_eq (tgt := 119) K hF dX4_token_86 (by decide) (fun hF => ?_) (fun hF => ?_)
    · refine g_aload_n (i := 0) K hl dX4_token_119 rfl rfl ?_
      refine g_iload_n (i := 2) K hl dX4_token_120 rfl rfl ?_
      refine g_bipush K dX4_token_121 lb_8 ?_
      refine g_icmp_le (tgt := 130) K hF dX4_token_123 (by decide) (fun hF => ?_) (fun hF => ?_)
      · refine g_iconst K dX4_token_130 lc_1 ?_
        exact L131  _ _ _ ls hF ha (lq_sub hl rfl)
      · refine g_iconst K dX4_token_126 lc_3 ?_
        refine g_goto (tgt := 131) K dX4_token_127 (by decide) ?_
        exact L131  _ _ _ ls hF ha (lq_sub hl rfl)
    · refine g_iload_n (i := 2) K hl dX4_token_89 rfl rfl ?_
      refine g_bipush K dX4_token_90 lb_8 ?_
      refine g_icmp_ge (tgt := 113) K hF dX4_token_92 (by decide) (fun hF => ?_) (fun hF => ?_)
      · refine g_iinc (i := 2) K hl dX4_token_113 rfl lc_1 rfl rfl (fun ls hl => ?_)
        refine g_goto (tgt := 78) K dX4_token_116 (by decide) ?_
        exact hk78 _ _ ls hF ha (lq_sub hl rfl)
      · refine g_aload_n (i := 0) K hl dX4_token_95 rfl rfl ?_
        refine g_aload_n (i := 0) K hl dX4_token_96 rfl rfl ?_
        refine mget_9 K dX4_token_97 ?_
        refine g_bipush K dX4_token_100 lb_8 ?_
        refine g_lshl K dX4_token_102 ?_
        refine g_aload_n (i := 0) K hl dX4_token_103 rfl rfl ?_
        refine g_iload_n (i := 2) K hl dX4_token_104 rfl rfl ?_
        refine m_callVP K hl hF (fun t h => w_here _ _ t h) rfl cp_here q1818 rfl rfl rfl rfl rfl dX4_token_105 (fun t3 hF => ?_)
        refine g_i2l K dX4_token_108 ?_
        refine g_lor K dX4_token_109 ?_
        refine mput_9 K hF ha rfl dX4_token_110 (fun σ4 hF ha => ?_)
        refine g_iinc (i := 2) K hl dX4_token_113 rfl lc_1 rfl rfl (fun ls hl => ?_)
        refine g_goto (tgt := 78) K dX4_token_116 (by decide) ?_
        exact hk78 _ _ ls hF ha (lq_sub hl rfl)
  have L78 : ∀  (n : Nat) (σ : MS) (x2 : Int32) (ls : Array Slot), M_token_L78 G  n σ x2 = some r → ag wr_token σ0 σ → lq ls 3 [(0, some (.ref qm)), (2, some (.int x2))] → ZM p l e 1 s m args below meth c D cz qm wr_token σ0 none r σ (F0 m 78 ls []) := by
    intro  n
    induction n with
    | zero => intro σ x2 ls hF; exact absurd hF (fun h => by cases h)
    | succ n ih => intro σ x2 ls hF ha hl; exact B78  _ ih _ _ ls hF ha hl
  have L20 : ∀ (k0 : MS → Option MS) (hk0 : (∀ (σ : MS) (ls : Array Slot), k0 σ = some r → ag wr_token σ0 σ → lq ls 3 [(0, some (.ref qm))] → ZM p l e 1 s m args below meth c D cz qm wr_token σ0 none r σ (F0 m 0 ls []))) (σ : MS) (ls : Array Slot), M_token_L20 G k0 σ = some r → ag wr_token σ0 σ → lq ls 3 [(0, some (.ref qm))] → ZM p l e 1 s m args below meth c D cz qm wr_token σ0 none r σ (F0 m 20 ls []) := by
    intro k0 hk0 σ ls hF ha hl
    unfold M_token_L20 at hF
    refine g_aload_n (i := 0) K hl dX4_token_20 rfl rfl ?_
    refine g_dup K dX4_token_21 rfl ?_
    refine mget_4 K dX4_token_22 ?_
    refine g_iconst K dX4_token_25 lc_1 ?_
    refine g_iadd K dX4_token_26 ?_
    refine mput_4 K hF ha rfl dX4_token_27 (fun σ1 hF ha => ?_)
    refine g_goto (tgt := 0) K dX4_token_30 (by decide) ?_
    exact hk0 _ ls hF ha (lq_sub hl rfl)
  have B0 : ∀ (k0 : MS → Option MS) (hk0 : (∀ (σ : MS) (ls : Array Slot), k0 σ = some r → ag wr_token σ0 σ → lq ls 3 [(0, some (.ref qm))] → ZM p l e 1 s m args below meth c D cz qm wr_token σ0 none r σ (F0 m 0 ls []))) (σ : MS) (ls : Array Slot), M_token_B0 G k0 σ = some r → ag wr_token σ0 σ → lq ls 3 [(0, some (.ref qm))] → ZM p l e 1 s m args below meth c D cz qm wr_token σ0 none r σ (F0 m 0 ls []) := by
    intro k0 hk0 σ ls hF ha hl
    unfold M_token_B0 at hF
    refine g_aload_n (i := 0) K hl dX4_token_0 rfl rfl ?_
    refine g_iconst K dX4_token_1 lc_0 ?_
    refine m_callVP K hl hF (fun t h => w_here _ _ t h) rfl cp_here q1818 rfl rfl rfl rfl rfl dX4_token_2 (fun t1 hF => ?_)
    refine g_bipush K dX4_token_5 lb_32 ?_
    refine g_icmp_eq (tgt := 20) K hF dX4_token_7 (by decide) (fun hF => ?_) (fun hF => ?_)
    · exact L20 k0 hk0 _ ls hF ha (lq_sub hl rfl)
    · refine g_aload_n (i := 0) K hl dX4_token_10 rfl rfl ?_
      refine g_iconst K dX4_token_11 lc_0 ?_
      refine m_callVP K hl hF (fun t h => w_here _ _ t h) rfl cp_here q1818 rfl rfl rfl rfl rfl dX4_token_12 (fun t2 hF => ?_)
      refine g_bipush K dX4_token_15 lb_10 ?_
      refine g_icmp_ne (tgt := 33) K hF dX4_token_17 (by decide) (fun hF => ?_) (fun hF => ?_)
      · refine g_aload_n (i := 0) K hl dX4_token_33 rfl rfl ?_
        refine g_aload_n (i := 0) K hl dX4_token_34 rfl rfl ?_
        refine mget_4 K dX4_token_35 ?_
        refine mput_7 K hF ha rfl dX4_token_38 (fun σ3 hF ha => ?_)
        refine g_aload_n (i := 0) K hl dX4_token_41 rfl rfl ?_
        refine g_iconst K dX4_token_42 lc_0 ?_
        refine m_callVP K hl hF (fun t h => w_here _ _ t h) rfl cp_here q1818 rfl rfl rfl rfl rfl dX4_token_43 (fun t4 hF => ?_)
        refine g_istore_n (i := 1) K hl dX4_token_46 rfl rfl rfl (fun ls hl => ?_)
        refine g_iconst K dX4_token_47 lc_0 ?_
        refine g_istore_n (i := 2) K hl dX4_token_48 rfl rfl rfl (fun ls hl => ?_)
        refine g_aload_n (i := 0) K hl dX4_token_49 rfl rfl ?_
        refine g_lconst K dX4_token_50 ll_0 ?_
        refine mput_9 K hF ha rfl dX4_token_51 (fun σ5 hF ha => ?_)
        refine g_aload_n (i := 0) K hl dX4_token_54 rfl rfl ?_
        refine g_iconst K dX4_token_55 lc_0 ?_
        refine mput_8 K hF ha rfl dX4_token_56 (fun σ6 hF ha => ?_)
        refine g_iload_n (i := 1) K hl dX4_token_59 rfl rfl ?_
        refine g_if_ge (tgt := 71) K hF dX4_token_60 (by decide) (fun hF => ?_) (fun hF => ?_)
        · refine g_iload_n (i := 1) K hl dX4_token_71 rfl rfl ?_
          refine m_callSP K hl hF (fun t h => w_isLetter _ _ t h) cp_isLetter q1822 rfl rfl rfl rfl rfl dX4_token_72 (fun t7 hF => ?_)
          refine g_if_eq (tgt := 137) K hF dX4_token_75 (by decide) (fun hF => ?_) (fun hF => ?_)
          · refine g_iload_n (i := 1) K hl dX4_token_137 rfl rfl ?_
            refine m_callSP K hl hF (fun t h => w_isDigit _ _ t h) cp_isDigit q1825 rfl rfl rfl rfl rfl dX4_token_138 (fun t8 hF => ?_)
            refine g_if_eq (tgt := 214) K hF dX4_token_141 (by decide) (fun hF => ?_) (fun hF => ?_)
            · refine g_iconst K dX4_token_214 lc_1 ?_
              refine g_istore_n (i := 2) K hl dX4_token_215 rfl rfl rfl (fun ls hl => ?_)
              refine g_aload_n (i := 0) K hl dX4_token_216 rfl rfl ?_
              refine g_iload_n (i := 1) K hl dX4_token_217 rfl rfl ?_
              refine m_callSP K hl hF (fun t h => w_isSign _ _ t h) cp_isSign q1828 rfl rfl rfl rfl rfl dX4_token_218 (fun t9 hF => ?_)
              refine g_if_eq (tgt := 228) K hF dX4_token_221 (by decide) (fun hF => ?_) (fun hF => ?_)
              · refine g_iconst K dX4_token_228 lc_3 ?_
                exact L229  _ _ _ ls hF ha (lq_sub hl rfl)
              · refine g_iload_n (i := 1) K hl dX4_token_224 rfl rfl ?_
                refine g_goto (tgt := 229) K dX4_token_225 (by decide) ?_
                exact L229  _ _ _ ls hF ha (lq_sub hl rfl)
            · exact L144  G _ _ ls hF ha (lq_sub hl rfl)
          · exact L78  G _ _ ls hF ha (lq_sub hl rfl)
        · refine g_aload_n (i := 0) K hl dX4_token_63 rfl rfl ?_
          refine g_iconst K dX4_token_64 lc_0 ?_
          refine mput_6 K hF ha rfl dX4_token_65 (fun σ10 hF ha => ?_)
          refine g_goto (tgt := 232) K dX4_token_68 (by decide) ?_
          exact L232  _ _ ls hF ha (lq_sub hl rfl)
      · exact L20 k0 hk0 _ ls hF ha (lq_sub hl rfl)
  have L0 : ∀  (n : Nat) (σ : MS) (ls : Array Slot), M_token_L0 G  n σ = some r → ag wr_token σ0 σ → lq ls 3 [(0, some (.ref qm))] → ZM p l e 1 s m args below meth c D cz qm wr_token σ0 none r σ (F0 m 0 ls []) := by
    intro  n
    induction n with
    | zero => intro σ ls hF; exact absurd hF (fun h => by cases h)
    | succ n ih => intro σ ls hF ha hl; exact B0  _ ih _ ls hF ha hl
  have ha : ag wr_token σ0 σ0 := ag.rf
  unfold M_token at hF
  exact L0  G _ ls hF ha (lq_sub hl rfl)

theorem cp_wrong : cpV yX4_wrong cX4_wrong 2 none 1 := ⟨q1854, qs69, q152, q1855, by decide +kernel⟩
set_option maxHeartbeats 4000000 in
set_option maxRecDepth 100000 in
theorem w_wrong {l : Launch} {D : va_G} {cz : Nat → ClassId} {qm : Nat} (σ0 : MS) (a0 : Int32) (r : MS) (hF : M_wrong σ0 a0 = some r) : mMet l D cz qm yX4_wrong cX4_wrong 2 none 0 wr_wrong [.ref qm, .int a0] σ0 none r := by
  refine m_of (by decide) rfl ?_
  intro p e s m args below meth c ls K hl
  have L22 : ∀  (σ : MS) (s1 : Int32) (ls : Array Slot), M_wrong_L22   σ s1 = some r → ag wr_wrong σ0 σ → lq ls 2 [(0, some (.ref qm))] → ZM p l e 0 s m args below meth c D cz qm wr_wrong σ0 none r σ (F0 m 22 ls [.int s1, .ref qm]) := by
    intro  σ s1 ls hF ha hl
    unfold M_wrong_L22 at hF
    refine mput_2 K hF ha rfl dX4_wrong_22 (fun σ1 hF ha => ?_)
    refine g_aload_n (i := 0) K hl dX4_wrong_25 rfl rfl ?_
    refine g_aload_n (i := 0) K hl dX4_wrong_26 rfl rfl ?_
    refine mget_7 K dX4_wrong_27 ?_
    refine mput_3 K hF ha rfl dX4_wrong_30 (fun σ2 hF ha => ?_)
    exact m_vretV K hF ha dX4_wrong_33
  have ha : ag wr_wrong σ0 σ0 := ag.rf
  unfold M_wrong at hF
  refine g_aload_n (i := 0) K hl dX4_wrong_0 rfl rfl ?_
  refine mget_2 K dX4_wrong_1 ?_
  refine g_if_le (tgt := 8) K hF dX4_wrong_4 (by decide) (fun hF => ?_) (fun hF => ?_)
  · refine g_aload_n (i := 0) K hl dX4_wrong_8 rfl rfl ?_
    refine g_aload_n (i := 0) K hl dX4_wrong_9 rfl rfl ?_
    refine mget_6 K dX4_wrong_10 ?_
    refine g_iconst K dX4_wrong_13 lc_3 ?_
    refine g_icmp_ne (tgt := 21) K hF dX4_wrong_14 (by decide) (fun hF => ?_) (fun hF => ?_)
    · refine g_iload_n (i := 1) K hl dX4_wrong_21 rfl rfl ?_
      exact L22  _ _ ls hF ha (lq_sub hl rfl)
    · refine g_iconst K dX4_wrong_17 lc_1 ?_
      refine g_goto (tgt := 22) K dX4_wrong_18 (by decide) ?_
      exact L22  _ _ ls hF ha (lq_sub hl rfl)
  · exact m_vretV K hF ha dX4_wrong_7

theorem cp_wrongAt : cpV yX4_wrongAt cX4_wrongAt 3 none 2 := ⟨q1966, qs90, q152, q1967, by decide +kernel⟩
set_option maxHeartbeats 4000000 in
set_option maxRecDepth 100000 in
theorem w_wrongAt {l : Launch} {D : va_G} {cz : Nat → ClassId} {qm : Nat} (σ0 : MS) (a0 : Int32) (a1 : Int32) (r : MS) (hF : M_wrongAt σ0 a0 a1 = some r) : mMet l D cz qm yX4_wrongAt cX4_wrongAt 3 none 0 wr_wrongAt [.ref qm, .int a0, .int a1] σ0 none r := by
  refine m_of (by decide) rfl ?_
  intro p e s m args below meth c ls K hl
  have ha : ag wr_wrongAt σ0 σ0 := ag.rf
  unfold M_wrongAt at hF
  refine g_aload_n (i := 0) K hl dX4_wrongAt_0 rfl rfl ?_
  refine mget_2 K dX4_wrongAt_1 ?_
  refine g_if_le (tgt := 8) K hF dX4_wrongAt_4 (by decide) (fun hF => ?_) (fun hF => ?_)
  · refine g_aload_n (i := 0) K hl dX4_wrongAt_8 rfl rfl ?_
    refine g_iload_n (i := 1) K hl dX4_wrongAt_9 rfl rfl ?_
    refine mput_2 K hF ha rfl dX4_wrongAt_10 (fun σ1 hF ha => ?_)
    refine g_aload_n (i := 0) K hl dX4_wrongAt_13 rfl rfl ?_
    refine g_iload_n (i := 2) K hl dX4_wrongAt_14 rfl rfl ?_
    refine mput_3 K hF ha rfl dX4_wrongAt_15 (fun σ2 hF ha => ?_)
    exact m_vretV K hF ha dX4_wrongAt_18
  · exact m_vretV K hF ha dX4_wrongAt_7

theorem cp_isWord : cpV yX4_isWord cX4_isWord 3 (some .boolean) 1 := ⟨q1838, qs65, q152, q1839, by decide +kernel⟩
set_option maxHeartbeats 4000000 in
set_option maxRecDepth 100000 in
theorem w_isWord {l : Launch} {D : va_G} {cz : Nat → ClassId} {qm : Nat} (σ0 : MS) (a0 : Int64) (r : Int32) (hF : M_isWord σ0 a0 = some r) : mMet l D cz qm yX4_isWord cX4_isWord 3 (some .boolean) 0 wr_isWord [.ref qm, .long a0] σ0 (some (.int r)) σ0 := by
  refine m_of (by decide) rfl ?_
  intro p e s m args below meth c ls K hl
  unfold M_isWord at hF
  refine g_aload_n (i := 0) K hl dX4_isWord_0 rfl rfl ?_
  refine mget_6 K dX4_isWord_1 ?_
  refine g_iconst K dX4_isWord_4 lc_1 ?_
  refine g_icmp_ne (tgt := 21) K hF dX4_isWord_5 (by decide) (fun hF => ?_) (fun hF => ?_)
  · refine g_iconst K dX4_isWord_21 lc_0 ?_
    exact m_zretP K hF (Or.inl rfl) ag.rf dX4_isWord_22
  · refine g_aload_n (i := 0) K hl dX4_isWord_8 rfl rfl ?_
    refine mget_9 K dX4_isWord_9 ?_
    refine g_lload_n (i := 1) K hl dX4_isWord_12 rfl rfl ?_
    refine g_lcmp K dX4_isWord_13 ?_
    refine g_if_ne (tgt := 21) K hF dX4_isWord_14 (by decide) (fun hF => ?_) (fun hF => ?_)
    · refine g_iconst K dX4_isWord_21 lc_0 ?_
      exact m_zretP K hF (Or.inl rfl) ag.rf dX4_isWord_22
    · refine g_iconst K dX4_isWord_17 lc_1 ?_
      refine g_goto (tgt := 22) K dX4_isWord_18 (by decide) ?_
      exact m_zretP K hF (Or.inr rfl) ag.rf dX4_isWord_22

theorem cp_isOwn : cpV yX4_isOwn cX4_isOwn 1 (some .boolean) 0 := ⟨q1947, qs87, q152, q1948, by decide +kernel⟩
set_option maxHeartbeats 4000000 in
set_option maxRecDepth 100000 in
theorem w_isOwn {l : Launch} {D : va_G} {cz : Nat → ClassId} {qm : Nat} (σ0 : MS)  (r : Int32) (hF : M_isOwn σ0 = some r) : mMet l D cz qm yX4_isOwn cX4_isOwn 1 (some .boolean) 0 wr_isOwn [.ref qm] σ0 (some (.int r)) σ0 := by
  refine m_of (by decide) rfl ?_
  intro p e s m args below meth c ls K hl
  unfold M_isOwn at hF
  refine g_aload_n (i := 0) K hl dX4_isOwn_0 rfl rfl ?_
  refine mget_9 K dX4_isOwn_1 ?_
  refine g_ldc2 K dX4_isOwn_4 q1835 ?_
  refine g_lcmp K dX4_isOwn_7 ?_
  refine g_if_eq (tgt := 286) K hF dX4_isOwn_8 (by decide) (fun hF => ?_) (fun hF => ?_)
  · refine g_iconst K dX4_isOwn_286 lc_1 ?_
    refine g_goto (tgt := 291) K dX4_isOwn_287 (by decide) ?_
    exact m_zretP K hF (Or.inr rfl) ag.rf dX4_isOwn_291
  · refine g_aload_n (i := 0) K hl dX4_isOwn_11 rfl rfl ?_
    refine mget_9 K dX4_isOwn_12 ?_
    refine g_ldc2 K dX4_isOwn_15 q1860 ?_
    refine g_lcmp K dX4_isOwn_18 ?_
    refine g_if_eq (tgt := 286) K hF dX4_isOwn_19 (by decide) (fun hF => ?_) (fun hF => ?_)
    · refine g_iconst K dX4_isOwn_286 lc_1 ?_
      refine g_goto (tgt := 291) K dX4_isOwn_287 (by decide) ?_
      exact m_zretP K hF (Or.inr rfl) ag.rf dX4_isOwn_291
    · refine g_aload_n (i := 0) K hl dX4_isOwn_22 rfl rfl ?_
      refine mget_9 K dX4_isOwn_23 ?_
      refine g_ldc2 K dX4_isOwn_26 q1861 ?_
      refine g_lcmp K dX4_isOwn_29 ?_
      refine g_if_eq (tgt := 286) K hF dX4_isOwn_30 (by decide) (fun hF => ?_) (fun hF => ?_)
      · refine g_iconst K dX4_isOwn_286 lc_1 ?_
        refine g_goto (tgt := 291) K dX4_isOwn_287 (by decide) ?_
        exact m_zretP K hF (Or.inr rfl) ag.rf dX4_isOwn_291
      · refine g_aload_n (i := 0) K hl dX4_isOwn_33 rfl rfl ?_
        refine mget_9 K dX4_isOwn_34 ?_
        refine g_ldc2 K dX4_isOwn_37 q1866 ?_
        refine g_lcmp K dX4_isOwn_40 ?_
        refine g_if_eq (tgt := 286) K hF dX4_isOwn_41 (by decide) (fun hF => ?_) (fun hF => ?_)
        · refine g_iconst K dX4_isOwn_286 lc_1 ?_
          refine g_goto (tgt := 291) K dX4_isOwn_287 (by decide) ?_
          exact m_zretP K hF (Or.inr rfl) ag.rf dX4_isOwn_291
        · refine g_aload_n (i := 0) K hl dX4_isOwn_44 rfl rfl ?_
          refine mget_9 K dX4_isOwn_45 ?_
          refine g_ldc2 K dX4_isOwn_48 q1867 ?_
          refine g_lcmp K dX4_isOwn_51 ?_
          refine g_if_eq (tgt := 286) K hF dX4_isOwn_52 (by decide) (fun hF => ?_) (fun hF => ?_)
          · refine g_iconst K dX4_isOwn_286 lc_1 ?_
            refine g_goto (tgt := 291) K dX4_isOwn_287 (by decide) ?_
            exact m_zretP K hF (Or.inr rfl) ag.rf dX4_isOwn_291
          · refine g_aload_n (i := 0) K hl dX4_isOwn_55 rfl rfl ?_
            refine mget_9 K dX4_isOwn_56 ?_
            refine g_ldc2 K dX4_isOwn_59 q1868 ?_
            refine g_lcmp K dX4_isOwn_62 ?_
            refine g_if_eq (tgt := 286) K hF dX4_isOwn_63 (by decide) (fun hF => ?_) (fun hF => ?_)
            · refine g_iconst K dX4_isOwn_286 lc_1 ?_
              refine g_goto (tgt := 291) K dX4_isOwn_287 (by decide) ?_
              exact m_zretP K hF (Or.inr rfl) ag.rf dX4_isOwn_291
            · refine g_aload_n (i := 0) K hl dX4_isOwn_66 rfl rfl ?_
              refine mget_9 K dX4_isOwn_67 ?_
              refine g_ldc2 K dX4_isOwn_70 q1869 ?_
              refine g_lcmp K dX4_isOwn_73 ?_
              refine g_if_eq (tgt := 286) K hF dX4_isOwn_74 (by decide) (fun hF => ?_) (fun hF => ?_)
              · refine g_iconst K dX4_isOwn_286 lc_1 ?_
                refine g_goto (tgt := 291) K dX4_isOwn_287 (by decide) ?_
                exact m_zretP K hF (Or.inr rfl) ag.rf dX4_isOwn_291
              · refine g_aload_n (i := 0) K hl dX4_isOwn_77 rfl rfl ?_
                refine mget_9 K dX4_isOwn_78 ?_
                refine g_ldc2 K dX4_isOwn_81 q1932 ?_
                refine g_lcmp K dX4_isOwn_84 ?_
                refine g_if_eq (tgt := 286) K hF dX4_isOwn_85 (by decide) (fun hF => ?_) (fun hF => ?_)
                · refine g_iconst K dX4_isOwn_286 lc_1 ?_
                  refine g_goto (tgt := 291) K dX4_isOwn_287 (by decide) ?_
                  exact m_zretP K hF (Or.inr rfl) ag.rf dX4_isOwn_291
                · refine g_aload_n (i := 0) K hl dX4_isOwn_88 rfl rfl ?_
                  refine mget_9 K dX4_isOwn_89 ?_
                  refine g_ldc2 K dX4_isOwn_92 q1949 ?_
                  refine g_lcmp K dX4_isOwn_95 ?_
                  refine g_if_eq (tgt := 286) K hF dX4_isOwn_96 (by decide) (fun hF => ?_) (fun hF => ?_)
                  · refine g_iconst K dX4_isOwn_286 lc_1 ?_
                    refine g_goto (tgt := 291) K dX4_isOwn_287 (by decide) ?_
                    exact m_zretP K hF (Or.inr rfl) ag.rf dX4_isOwn_291
                  · refine g_aload_n (i := 0) K hl dX4_isOwn_99 rfl rfl ?_
                    refine mget_9 K dX4_isOwn_100 ?_
                    refine g_ldc2 K dX4_isOwn_103 q1950 ?_
                    refine g_lcmp K dX4_isOwn_106 ?_
                    refine g_if_eq (tgt := 286) K hF dX4_isOwn_107 (by decide) (fun hF => ?_) (fun hF => ?_)
                    · refine g_iconst K dX4_isOwn_286 lc_1 ?_
                      refine g_goto (tgt := 291) K dX4_isOwn_287 (by decide) ?_
                      exact m_zretP K hF (Or.inr rfl) ag.rf dX4_isOwn_291
                    · refine g_aload_n (i := 0) K hl dX4_isOwn_110 rfl rfl ?_
                      refine mget_9 K dX4_isOwn_111 ?_
                      refine g_ldc2 K dX4_isOwn_114 q1903 ?_
                      refine g_lcmp K dX4_isOwn_117 ?_
                      refine g_if_eq (tgt := 286) K hF dX4_isOwn_118 (by decide) (fun hF => ?_) (fun hF => ?_)
                      · refine g_iconst K dX4_isOwn_286 lc_1 ?_
                        refine g_goto (tgt := 291) K dX4_isOwn_287 (by decide) ?_
                        exact m_zretP K hF (Or.inr rfl) ag.rf dX4_isOwn_291
                      · refine g_aload_n (i := 0) K hl dX4_isOwn_121 rfl rfl ?_
                        refine mget_9 K dX4_isOwn_122 ?_
                        refine g_ldc2 K dX4_isOwn_125 q1904 ?_
                        refine g_lcmp K dX4_isOwn_128 ?_
                        refine g_if_eq (tgt := 286) K hF dX4_isOwn_129 (by decide) (fun hF => ?_) (fun hF => ?_)
                        · refine g_iconst K dX4_isOwn_286 lc_1 ?_
                          refine g_goto (tgt := 291) K dX4_isOwn_287 (by decide) ?_
                          exact m_zretP K hF (Or.inr rfl) ag.rf dX4_isOwn_291
                        · refine g_aload_n (i := 0) K hl dX4_isOwn_132 rfl rfl ?_
                          refine mget_9 K dX4_isOwn_133 ?_
                          refine g_ldc2 K dX4_isOwn_136 q1951 ?_
                          refine g_lcmp K dX4_isOwn_139 ?_
                          refine g_if_eq (tgt := 286) K hF dX4_isOwn_140 (by decide) (fun hF => ?_) (fun hF => ?_)
                          · refine g_iconst K dX4_isOwn_286 lc_1 ?_
                            refine g_goto (tgt := 291) K dX4_isOwn_287 (by decide) ?_
                            exact m_zretP K hF (Or.inr rfl) ag.rf dX4_isOwn_291
                          · refine g_aload_n (i := 0) K hl dX4_isOwn_143 rfl rfl ?_
                            refine mget_9 K dX4_isOwn_144 ?_
                            refine g_ldc2 K dX4_isOwn_147 q1952 ?_
                            refine g_lcmp K dX4_isOwn_150 ?_
                            refine g_if_eq (tgt := 286) K hF dX4_isOwn_151 (by decide) (fun hF => ?_) (fun hF => ?_)
                            · refine g_iconst K dX4_isOwn_286 lc_1 ?_
                              refine g_goto (tgt := 291) K dX4_isOwn_287 (by decide) ?_
                              exact m_zretP K hF (Or.inr rfl) ag.rf dX4_isOwn_291
                            · refine g_aload_n (i := 0) K hl dX4_isOwn_154 rfl rfl ?_
                              refine mget_9 K dX4_isOwn_155 ?_
                              refine g_ldc2 K dX4_isOwn_158 q1953 ?_
                              refine g_lcmp K dX4_isOwn_161 ?_
                              refine g_if_eq (tgt := 286) K hF dX4_isOwn_162 (by decide) (fun hF => ?_) (fun hF => ?_)
                              · refine g_iconst K dX4_isOwn_286 lc_1 ?_
                                refine g_goto (tgt := 291) K dX4_isOwn_287 (by decide) ?_
                                exact m_zretP K hF (Or.inr rfl) ag.rf dX4_isOwn_291
                              · refine g_aload_n (i := 0) K hl dX4_isOwn_165 rfl rfl ?_
                                refine mget_9 K dX4_isOwn_166 ?_
                                refine g_ldc2 K dX4_isOwn_169 q1908 ?_
                                refine g_lcmp K dX4_isOwn_172 ?_
                                refine g_if_eq (tgt := 286) K hF dX4_isOwn_173 (by decide) (fun hF => ?_) (fun hF => ?_)
                                · refine g_iconst K dX4_isOwn_286 lc_1 ?_
                                  refine g_goto (tgt := 291) K dX4_isOwn_287 (by decide) ?_
                                  exact m_zretP K hF (Or.inr rfl) ag.rf dX4_isOwn_291
                                · refine g_aload_n (i := 0) K hl dX4_isOwn_176 rfl rfl ?_
                                  refine mget_9 K dX4_isOwn_177 ?_
                                  refine g_ldc2 K dX4_isOwn_180 q1907 ?_
                                  refine g_lcmp K dX4_isOwn_183 ?_
                                  refine g_if_eq (tgt := 286) K hF dX4_isOwn_184 (by decide) (fun hF => ?_) (fun hF => ?_)
                                  · refine g_iconst K dX4_isOwn_286 lc_1 ?_
                                    refine g_goto (tgt := 291) K dX4_isOwn_287 (by decide) ?_
                                    exact m_zretP K hF (Or.inr rfl) ag.rf dX4_isOwn_291
                                  · refine g_aload_n (i := 0) K hl dX4_isOwn_187 rfl rfl ?_
                                    refine mget_9 K dX4_isOwn_188 ?_
                                    refine g_ldc2 K dX4_isOwn_191 q1954 ?_
                                    refine g_lcmp K dX4_isOwn_194 ?_
                                    refine g_if_eq (tgt := 286) K hF dX4_isOwn_195 (by decide) (fun hF => ?_) (fun hF => ?_)
                                    · refine g_iconst K dX4_isOwn_286 lc_1 ?_
                                      refine g_goto (tgt := 291) K dX4_isOwn_287 (by decide) ?_
                                      exact m_zretP K hF (Or.inr rfl) ag.rf dX4_isOwn_291
                                    · refine g_aload_n (i := 0) K hl dX4_isOwn_198 rfl rfl ?_
                                      refine mget_9 K dX4_isOwn_199 ?_
                                      refine g_ldc2 K dX4_isOwn_202 q1905 ?_
                                      refine g_lcmp K dX4_isOwn_205 ?_
                                      refine g_if_eq (tgt := 286) K hF dX4_isOwn_206 (by decide) (fun hF => ?_) (fun hF => ?_)
                                      · refine g_iconst K dX4_isOwn_286 lc_1 ?_
                                        refine g_goto (tgt := 291) K dX4_isOwn_287 (by decide) ?_
                                        exact m_zretP K hF (Or.inr rfl) ag.rf dX4_isOwn_291
                                      · refine g_aload_n (i := 0) K hl dX4_isOwn_209 rfl rfl ?_
                                        refine mget_9 K dX4_isOwn_210 ?_
                                        refine g_ldc2 K dX4_isOwn_213 q1906 ?_
                                        refine g_lcmp K dX4_isOwn_216 ?_
                                        refine g_if_eq (tgt := 286) K hF dX4_isOwn_217 (by decide) (fun hF => ?_) (fun hF => ?_)
                                        · refine g_iconst K dX4_isOwn_286 lc_1 ?_
                                          refine g_goto (tgt := 291) K dX4_isOwn_287 (by decide) ?_
                                          exact m_zretP K hF (Or.inr rfl) ag.rf dX4_isOwn_291
                                        · refine g_aload_n (i := 0) K hl dX4_isOwn_220 rfl rfl ?_
                                          refine mget_9 K dX4_isOwn_221 ?_
                                          refine g_ldc2 K dX4_isOwn_224 q1909 ?_
                                          refine g_lcmp K dX4_isOwn_227 ?_
                                          refine g_if_eq (tgt := 286) K hF dX4_isOwn_228 (by decide) (fun hF => ?_) (fun hF => ?_)
                                          · refine g_iconst K dX4_isOwn_286 lc_1 ?_
                                            refine g_goto (tgt := 291) K dX4_isOwn_287 (by decide) ?_
                                            exact m_zretP K hF (Or.inr rfl) ag.rf dX4_isOwn_291
                                          · refine g_aload_n (i := 0) K hl dX4_isOwn_231 rfl rfl ?_
                                            refine mget_9 K dX4_isOwn_232 ?_
                                            refine g_ldc2 K dX4_isOwn_235 q1870 ?_
                                            refine g_lcmp K dX4_isOwn_238 ?_
                                            refine g_if_eq (tgt := 286) K hF dX4_isOwn_239 (by decide) (fun hF => ?_) (fun hF => ?_)
                                            · refine g_iconst K dX4_isOwn_286 lc_1 ?_
                                              refine g_goto (tgt := 291) K dX4_isOwn_287 (by decide) ?_
                                              exact m_zretP K hF (Or.inr rfl) ag.rf dX4_isOwn_291
                                            · refine g_aload_n (i := 0) K hl dX4_isOwn_242 rfl rfl ?_
                                              refine mget_9 K dX4_isOwn_243 ?_
                                              refine g_ldc2 K dX4_isOwn_246 q1955 ?_
                                              refine g_lcmp K dX4_isOwn_249 ?_
                                              refine g_if_eq (tgt := 286) K hF dX4_isOwn_250 (by decide) (fun hF => ?_) (fun hF => ?_)
                                              · refine g_iconst K dX4_isOwn_286 lc_1 ?_
                                                refine g_goto (tgt := 291) K dX4_isOwn_287 (by decide) ?_
                                                exact m_zretP K hF (Or.inr rfl) ag.rf dX4_isOwn_291
                                              · refine g_aload_n (i := 0) K hl dX4_isOwn_253 rfl rfl ?_
                                                refine mget_9 K dX4_isOwn_254 ?_
                                                refine g_ldc2 K dX4_isOwn_257 q1918 ?_
                                                refine g_lcmp K dX4_isOwn_260 ?_
                                                refine g_if_eq (tgt := 286) K hF dX4_isOwn_261 (by decide) (fun hF => ?_) (fun hF => ?_)
                                                · refine g_iconst K dX4_isOwn_286 lc_1 ?_
                                                  refine g_goto (tgt := 291) K dX4_isOwn_287 (by decide) ?_
                                                  exact m_zretP K hF (Or.inr rfl) ag.rf dX4_isOwn_291
                                                · refine g_aload_n (i := 0) K hl dX4_isOwn_264 rfl rfl ?_
                                                  refine mget_9 K dX4_isOwn_265 ?_
                                                  refine g_ldc2 K dX4_isOwn_268 q1919 ?_
                                                  refine g_lcmp K dX4_isOwn_271 ?_
                                                  refine g_if_eq (tgt := 286) K hF dX4_isOwn_272 (by decide) (fun hF => ?_) (fun hF => ?_)
                                                  · refine g_iconst K dX4_isOwn_286 lc_1 ?_
                                                    refine g_goto (tgt := 291) K dX4_isOwn_287 (by decide) ?_
                                                    exact m_zretP K hF (Or.inr rfl) ag.rf dX4_isOwn_291
                                                  · refine g_aload_n (i := 0) K hl dX4_isOwn_275 rfl rfl ?_
                                                    refine mget_9 K dX4_isOwn_276 ?_
                                                    refine g_ldc2 K dX4_isOwn_279 q1879 ?_
                                                    refine g_lcmp K dX4_isOwn_282 ?_
                                                    refine g_if_ne (tgt := 290) K hF dX4_isOwn_283 (by decide) (fun hF => ?_) (fun hF => ?_)
                                                    · refine g_iconst K dX4_isOwn_290 lc_0 ?_
                                                      exact m_zretP K hF (Or.inl rfl) ag.rf dX4_isOwn_291
                                                    · refine g_iconst K dX4_isOwn_286 lc_1 ?_
                                                      refine g_goto (tgt := 291) K dX4_isOwn_287 (by decide) ?_
                                                      exact m_zretP K hF (Or.inr rfl) ag.rf dX4_isOwn_291

theorem cp_isName : cpV yX4_isName cX4_isName 1 (some .boolean) 0 := ⟨q1943, qs86, q152, q1944, by decide +kernel⟩
set_option maxHeartbeats 4000000 in
set_option maxRecDepth 100000 in
theorem w_isName {l : Launch} {D : va_G} {cz : Nat → ClassId} {qm : Nat} (σ0 : MS)  (r : Int32) (hF : M_isName σ0 = some r) : mMet l D cz qm yX4_isName cX4_isName 1 (some .boolean) 1 wr_isName [.ref qm] σ0 (some (.int r)) σ0 := by
  refine m_of (by decide) rfl ?_
  intro p e s m args below meth c ls K hl
  unfold M_isName at hF
  refine g_aload_n (i := 0) K hl dX4_isName_0 rfl rfl ?_
  refine mget_6 K dX4_isName_1 ?_
  refine g_iconst K dX4_isName_4 lc_1 ?_
  refine g_icmp_ne (tgt := 19) K hF dX4_isName_5 (by decide) (fun hF => ?_) (fun hF => ?_)
  · refine g_iconst K dX4_isName_19 lc_0 ?_
    exact m_zretP K hF (Or.inl rfl) ag.rf dX4_isName_20
  · refine g_aload_n (i := 0) K hl dX4_isName_8 rfl rfl ?_
    refine m_callVP K hl hF (fun t h => w_isOwn _  t h) rfl cp_isOwn q1945 rfl rfl rfl rfl rfl dX4_isName_9 (fun t1 hF => ?_)
    refine g_if_ne (tgt := 19) K hF dX4_isName_12 (by decide) (fun hF => ?_) (fun hF => ?_)
    · refine g_iconst K dX4_isName_19 lc_0 ?_
      exact m_zretP K hF (Or.inl rfl) ag.rf dX4_isName_20
    · refine g_iconst K dX4_isName_15 lc_1 ?_
      refine g_goto (tgt := 20) K dX4_isName_16 (by decide) ?_
      exact m_zretP K hF (Or.inr rfl) ag.rf dX4_isName_20

theorem cp_takes : cpV yX4_takes cX4_takes 4 (some .boolean) 1 := ⟨q1970, qs91, q152, q1971, by decide +kernel⟩
set_option maxHeartbeats 4000000 in
set_option maxRecDepth 100000 in
theorem w_takes {l : Launch} {D : va_G} {cz : Nat → ClassId} {qm : Nat} (G : Nat) (σ0 : MS) (a0 : Int64) (r : (Int32 × MS)) (hF : M_takes G σ0 a0 = some r) : mMet l D cz qm yX4_takes cX4_takes 4 (some .boolean) 2 wr_takes [.ref qm, .long a0] σ0 (some (.int r.1)) r.2 := by
  refine m_of (by decide) rfl ?_
  intro p e s m args below meth c ls K hl
  have L20 : ∀  (σ : MS) (s0 : Int32) (ls : Array Slot), M_takes_L20 G  σ s0 = some r → ag wr_takes σ0 σ → lq ls 4 [(0, some (.ref qm))] → ZM p l e 2 s m args below meth c D cz qm wr_takes σ0 (some (.int r.1)) r.2 σ (F0 m 20 ls [.int s0]) := by
    intro  σ s0 ls hF ha hl
    unfold M_takes_L20 at hF
    refine g_istore_n (i := 3) K hl dX4_takes_20 rfl rfl rfl (fun ls hl => ?_)
    refine g_iload_n (i := 3) K hl dX4_takes_21 rfl rfl ?_
    refine g_if_eq (tgt := 29) K hF dX4_takes_22 (by decide) (fun hF => ?_) (fun hF => ?_)
    · refine g_iload_n (i := 3) K hl dX4_takes_29 rfl rfl ?_
      obtain ⟨hz, hF⟩ := bzI_i hF
      exact m_zretW K hF hz ha dX4_takes_30
    · refine g_aload_n (i := 0) K hl dX4_takes_25 rfl rfl ?_
      refine m_callVV K hl hF ha rfl (fun t h => w_token G _  t h) rfl cp_token q1814 rfl rfl rfl rfl rfl dX4_takes_26 (fun σ1 hF ha => ?_)
      refine g_iload_n (i := 3) K hl dX4_takes_29 rfl rfl ?_
      obtain ⟨hz, hF⟩ := bzI_i hF
      exact m_zretW K hF hz ha dX4_takes_30
  have L19 : ∀  (σ : MS) (ls : Array Slot), M_takes_L19 G  σ = some r → ag wr_takes σ0 σ → lq ls 4 [(0, some (.ref qm))] → ZM p l e 2 s m args below meth c D cz qm wr_takes σ0 (some (.int r.1)) r.2 σ (F0 m 19 ls []) := by
    intro  σ ls hF ha hl
    unfold M_takes_L19 at hF
    refine g_iconst K dX4_takes_19 lc_0 ?_
    exact L20  _ _ ls hF ha (lq_sub hl rfl)
  have ha : ag wr_takes σ0 σ0 := ag.rf
  unfold M_takes at hF
  refine g_aload_n (i := 0) K hl dX4_takes_0 rfl rfl ?_
  refine mget_2 K dX4_takes_1 ?_
  refine g_if_ne (tgt := 19) K hF dX4_takes_4 (by decide) (fun hF => ?_) (fun hF => ?_)
  · exact L19  _ ls hF ha (lq_sub hl rfl)
  · refine g_aload_n (i := 0) K hl dX4_takes_7 rfl rfl ?_
    refine g_lload_n (i := 1) K hl dX4_takes_8 rfl rfl ?_
    refine m_callVP K hl hF (fun t h => w_isWord _ _ t h) rfl cp_isWord q1836 rfl rfl rfl rfl rfl dX4_takes_9 (fun t1 hF => ?_)
    refine g_if_eq (tgt := 19) K hF dX4_takes_12 (by decide) (fun hF => ?_) (fun hF => ?_)
    · exact L19  _ ls hF ha (lq_sub hl rfl)
    · refine g_iconst K dX4_takes_15 lc_1 ?_
      refine g_goto (tgt := 20) K dX4_takes_16 (by decide) ?_
      exact L20  _ _ ls hF ha (lq_sub hl rfl)

theorem cp_want : cpV yX4_want cX4_want 3 none 1 := ⟨q1850, qs68, q152, q1851, by decide +kernel⟩
set_option maxHeartbeats 4000000 in
set_option maxRecDepth 100000 in
theorem w_want {l : Launch} {D : va_G} {cz : Nat → ClassId} {qm : Nat} (G : Nat) (σ0 : MS) (a0 : Int64) (r : MS) (hF : M_want G σ0 a0 = some r) : mMet l D cz qm yX4_want cX4_want 3 none 2 wr_want [.ref qm, .long a0] σ0 none r := by
  refine m_of (by decide) rfl ?_
  intro p e s m args below meth c ls K hl
  have ha : ag wr_want σ0 σ0 := ag.rf
  unfold M_want at hF
  refine g_aload_n (i := 0) K hl dX4_want_0 rfl rfl ?_
  refine mget_2 K dX4_want_1 ?_
  refine g_if_le (tgt := 8) K hF dX4_want_4 (by decide) (fun hF => ?_) (fun hF => ?_)
  · refine g_aload_n (i := 0) K hl dX4_want_8 rfl rfl ?_
    refine g_lload_n (i := 1) K hl dX4_want_9 rfl rfl ?_
    refine m_callVP K hl hF (fun t h => w_isWord _ _ t h) rfl cp_isWord q1836 rfl rfl rfl rfl rfl dX4_want_10 (fun t1 hF => ?_)
    refine g_if_ne (tgt := 24) K hF dX4_want_13 (by decide) (fun hF => ?_) (fun hF => ?_)
    · refine g_aload_n (i := 0) K hl dX4_want_24 rfl rfl ?_
      refine m_callVV K hl hF ha rfl (fun t h => w_token G _  t h) rfl cp_token q1814 rfl rfl rfl rfl rfl dX4_want_25 (fun σ2 hF ha => ?_)
      exact m_vretV K hF ha dX4_want_28
    · refine g_aload_n (i := 0) K hl dX4_want_16 rfl rfl ?_
      refine g_iconst K dX4_want_17 lc_2 ?_
      refine m_callVV K hl hF ha rfl (fun t h => w_wrong _ _ t h) rfl cp_wrong q1852 rfl rfl rfl rfl rfl dX4_want_18 (fun σ3 hF ha => ?_)
      refine g_goto (tgt := 28) K dX4_want_21 (by decide) ?_
      exact m_vretV K hF ha dX4_want_28
  · exact m_vretV K hF ha dX4_want_7

theorem cp_toldNumber : cpV yX4_toldNumber cX4_toldNumber 4 (some .int) 2 := ⟨q1858, qs70, q152, q1859, by decide +kernel⟩
set_option maxHeartbeats 4000000 in
set_option maxRecDepth 100000 in
theorem w_toldNumber {l : Launch} {D : va_G} {cz : Nat → ClassId} {qm : Nat} (G : Nat) (σ0 : MS) (a0 : Int32) (a1 : Int32) (r : (Int32 × MS)) (hF : M_toldNumber G σ0 a0 a1 = some r) : mMet l D cz qm yX4_toldNumber cX4_toldNumber 4 (some .int) 2 wr_toldNumber [.ref qm, .int a0, .int a1] σ0 (some (.int r.1)) r.2 := by
  refine m_of (by decide) rfl ?_
  intro p e s m args below meth c ls K hl
  have L46 : ∀  (σ : MS) (ls : Array Slot), M_toldNumber_L46 G  σ = some r → ag wr_toldNumber σ0 σ → lq ls 4 [(0, some (.ref qm))] → ZM p l e 2 s m args below meth c D cz qm wr_toldNumber σ0 (some (.int r.1)) r.2 σ (F0 m 46 ls []) := by
    intro  σ ls hF ha hl
    unfold M_toldNumber_L46 at hF
    refine g_aload_n (i := 0) K hl dX4_toldNumber_46 rfl rfl ?_
    refine mget_8 K dX4_toldNumber_47 ?_
    refine g_istore_n (i := 3) K hl dX4_toldNumber_50 rfl rfl rfl (fun ls hl => ?_)
    refine g_aload_n (i := 0) K hl dX4_toldNumber_51 rfl rfl ?_
    refine mget_2 K dX4_toldNumber_52 ?_
    refine g_if_ne (tgt := 62) K hF dX4_toldNumber_55 (by decide) (fun hF => ?_) (fun hF => ?_)
    · refine g_iload_n (i := 3) K hl dX4_toldNumber_62 rfl rfl ?_
      exact m_iretW K hF ha dX4_toldNumber_63
    · refine g_aload_n (i := 0) K hl dX4_toldNumber_58 rfl rfl ?_
      refine m_callVV K hl hF ha rfl (fun t h => w_token G _  t h) rfl cp_token q1814 rfl rfl rfl rfl rfl dX4_toldNumber_59 (fun σ1 hF ha => ?_)
      refine g_iload_n (i := 3) K hl dX4_toldNumber_62 rfl rfl ?_
      exact m_iretW K hF ha dX4_toldNumber_63
  have L41 : ∀  (σ : MS) (ls : Array Slot), M_toldNumber_L41 G  σ = some r → ag wr_toldNumber σ0 σ → lq ls 4 [(0, some (.ref qm))] → ZM p l e 2 s m args below meth c D cz qm wr_toldNumber σ0 (some (.int r.1)) r.2 σ (F0 m 41 ls []) := by
    intro  σ ls hF ha hl
    unfold M_toldNumber_L41 at hF
    refine g_aload_n (i := 0) K hl dX4_toldNumber_41 rfl rfl ?_
    refine g_iconst K dX4_toldNumber_42 lc_4 ?_
    refine m_callVV K hl hF ha rfl (fun t h => w_wrong _ _ t h) rfl cp_wrong q1852 rfl rfl rfl rfl rfl dX4_toldNumber_43 (fun σ1 hF ha => ?_)
    exact L46  _ ls hF ha (lq_sub hl rfl)
  have ha : ag wr_toldNumber σ0 σ0 := ag.rf
  unfold M_toldNumber at hF
  refine g_aload_n (i := 0) K hl dX4_toldNumber_0 rfl rfl ?_
  refine mget_2 K dX4_toldNumber_1 ?_
  refine g_if_le (tgt := 9) K hF dX4_toldNumber_4 (by decide) (fun hF => ?_) (fun hF => ?_)
  · refine g_aload_n (i := 0) K hl dX4_toldNumber_9 rfl rfl ?_
    refine mget_6 K dX4_toldNumber_10 ?_
    refine g_iconst K dX4_toldNumber_13 lc_2 ?_
    refine g_icmp_eq (tgt := 25) K hF dX4_toldNumber_14 (by decide) (fun hF => ?_) (fun hF => ?_)
    · refine g_aload_n (i := 0) K hl dX4_toldNumber_25 rfl rfl ?_
      refine mget_8 K dX4_toldNumber_26 ?_
      refine g_iload_n (i := 1) K hl dX4_toldNumber_29 rfl rfl ?_
      refine g_icmp_lt (tgt := 41) K hF dX4_toldNumber_30 (by decide) (fun hF => ?_) (fun hF => ?_)
      · exact L41  _ ls hF ha (lq_sub hl rfl)
      · refine g_aload_n (i := 0) K hl dX4_toldNumber_33 rfl rfl ?_
        refine mget_8 K dX4_toldNumber_34 ?_
        refine g_iload_n (i := 2) K hl dX4_toldNumber_37 rfl rfl ?_
        refine g_icmp_le (tgt := 46) K hF dX4_toldNumber_38 (by decide) (fun hF => ?_) (fun hF => ?_)
        · exact L46  _ ls hF ha (lq_sub hl rfl)
        · exact L41  _ ls hF ha (lq_sub hl rfl)
    · refine g_aload_n (i := 0) K hl dX4_toldNumber_17 rfl rfl ?_
      refine g_iconst K dX4_toldNumber_18 lc_2 ?_
      refine m_callVV K hl hF ha rfl (fun t h => w_wrong _ _ t h) rfl cp_wrong q1852 rfl rfl rfl rfl rfl dX4_toldNumber_19 (fun σ1 hF ha => ?_)
      refine g_goto (tgt := 46) K dX4_toldNumber_22 (by decide) ?_
      exact L46  _ ls hF ha (lq_sub hl rfl)
  · refine g_iconst K dX4_toldNumber_7 lc_0 ?_
    exact m_iretW K hF ha dX4_toldNumber_8

theorem cp_told : cpV yX4_told cX4_told 5 (some .int) 3 := ⟨q1846, qs67, q152, q1847, by decide +kernel⟩
set_option maxHeartbeats 4000000 in
set_option maxRecDepth 100000 in
theorem w_told {l : Launch} {D : va_G} {cz : Nat → ClassId} {qm : Nat} (G : Nat) (σ0 : MS) (a0 : Int64) (a1 : Int32) (a2 : Int32) (r : (Int32 × MS)) (hF : M_told G σ0 a0 a1 a2 = some r) : mMet l D cz qm yX4_told cX4_told 5 (some .int) 3 wr_told [.ref qm, .long a0, .int a1, .int a2] σ0 (some (.int r.1)) r.2 := by
  refine m_of (by decide) rfl ?_
  intro p e s m args below meth c ls K hl
  have ha : ag wr_told σ0 σ0 := ag.rf
  unfold M_told at hF
  refine g_aload_n (i := 0) K hl dX4_told_0 rfl rfl ?_
  refine g_lload_n (i := 1) K hl dX4_told_1 rfl rfl ?_
  refine m_callVV K hl hF ha rfl (fun t h => w_want G _ _ t h) rfl cp_want q1848 rfl rfl rfl rfl rfl dX4_told_2 (fun σ1 hF ha => ?_)
  refine g_aload_n (i := 0) K hl dX4_told_5 rfl rfl ?_
  refine g_iload_n (i := 3) K hl dX4_told_6 rfl rfl ?_
  refine g_iload (i := 4) K hl dX4_told_7 rfl ?_
  refine m_callVW K hl hF ha rfl (fun t h => w_toldNumber G _ _ _ t h) rfl cp_toldNumber q1856 rfl rfl rfl rfl rfl dX4_told_9 (fun t3 σ2 hF ha => ?_)
  exact m_iretW K hF ha dX4_told_12

theorem cp_add : cpV yX4_add cX4_add 3 none 2 := ⟨q1912, qs79, q152, q1913, by decide +kernel⟩
set_option maxHeartbeats 4000000 in
set_option maxRecDepth 100000 in
theorem w_add {l : Launch} {D : va_G} {cz : Nat → ClassId} {qm : Nat} (σ0 : MS) (a0 : Int32) (a1 : Int32) (r : MS) (hF : M_add σ0 a0 a1 = some r) : mMet l D cz qm yX4_add cX4_add 3 none 0 wr_add [.ref qm, .int a0, .int a1] σ0 none r := by
  refine m_of (by decide) rfl ?_
  intro p e s m args below meth c ls K hl
  have ha : ag wr_add σ0 σ0 := ag.rf
  unfold M_add at hF
  refine g_aload_n (i := 0) K hl dX4_add_0 rfl rfl ?_
  refine mget_10 K dX4_add_1 ?_
  refine g_sipush K dX4_add_4 ls_320 ?_
  refine g_aload_n (i := 0) K hl dX4_add_7 rfl rfl ?_
  refine mget_18 K dX4_add_8 ?_
  refine g_imul K dX4_add_11 ?_
  refine g_aload_n (i := 0) K hl dX4_add_12 rfl rfl ?_
  refine mget_12 K dX4_add_13 ?_
  refine g_aload_n (i := 0) K hl dX4_add_16 rfl rfl ?_
  refine mget_18 K dX4_add_17 ?_
  refine mld_12 K hF dX4_add_20 (fun t1 hF => ?_)
  refine g_iadd K dX4_add_21 ?_
  refine g_iload_n (i := 1) K hl dX4_add_22 rfl rfl ?_
  refine mst_10 K hF ha rfl dX4_add_23 (fun σ2 hF ha => ?_)
  refine g_aload_n (i := 0) K hl dX4_add_24 rfl rfl ?_
  refine mget_11 K dX4_add_25 ?_
  refine g_sipush K dX4_add_28 ls_320 ?_
  refine g_aload_n (i := 0) K hl dX4_add_31 rfl rfl ?_
  refine mget_18 K dX4_add_32 ?_
  refine g_imul K dX4_add_35 ?_
  refine g_aload_n (i := 0) K hl dX4_add_36 rfl rfl ?_
  refine mget_12 K dX4_add_37 ?_
  refine g_aload_n (i := 0) K hl dX4_add_40 rfl rfl ?_
  refine mget_18 K dX4_add_41 ?_
  refine mld_12 K hF dX4_add_44 (fun t3 hF => ?_)
  refine g_iadd K dX4_add_45 ?_
  refine g_iload_n (i := 2) K hl dX4_add_46 rfl rfl ?_
  refine mst_11 K hF ha rfl dX4_add_47 (fun σ4 hF ha => ?_)
  refine g_aload_n (i := 0) K hl dX4_add_48 rfl rfl ?_
  refine mget_12 K dX4_add_49 ?_
  refine g_aload_n (i := 0) K hl dX4_add_52 rfl rfl ?_
  refine mget_18 K dX4_add_53 ?_
  refine g_dup2 K dX4_add_56 rfl rfl ?_
  refine mld_12 K hF dX4_add_57 (fun t5 hF => ?_)
  refine g_iconst K dX4_add_58 lc_1 ?_
  refine g_iadd K dX4_add_59 ?_
  refine mst_12 K hF ha rfl dX4_add_60 (fun σ6 hF ha => ?_)
  exact m_vretV K hF ha dX4_add_61

theorem cp_tight : cpS yX4_tight cX4_tight 1 (some .int) 1 := ⟨q1885, q152, q1886, by decide +kernel⟩
set_option maxHeartbeats 4000000 in
set_option maxRecDepth 100000 in
theorem w_tight {l : Launch} {D : va_G} {cz : Nat → ClassId} {qm : Nat} (σ0 : MS) (a0 : Int32) (r : Int32) (hF : M_tight a0 = some r) : mMet l D cz qm yX4_tight cX4_tight 1 (some .int) 0 wr_tight [.int a0] σ0 (some (.int r)) σ0 := by
  refine m_of (by decide) rfl ?_
  intro p e s m args below meth c ls K hl
  unfold M_tight at hF
  refine g_iload_n (i := 0) K hl dX4_tight_0 rfl rfl ?_
  rcases sw_eq hF with ⟨hv, hF⟩ | ⟨hv0, hF⟩
  · refine g_lsw (tgt := 80) (off := 79) K dX4_tight_1 (by decide) (by rw [hv]; rfl) (by decide) ?_
    refine g_iconst K dX4_tight_80 lc_3 ?_
    exact m_iretP K hF ag.rf dX4_tight_81
  rcases sw_eq hF with ⟨hv, hF⟩ | ⟨hv1, hF⟩
  · refine g_lsw (tgt := 78) (off := 77) K dX4_tight_1 (by decide) (by rw [hv]; rfl) (by decide) ?_
    refine g_iconst K dX4_tight_78 lc_2 ?_
    exact m_iretP K hF ag.rf dX4_tight_79
  rcases sw_eq hF with ⟨hv, hF⟩ | ⟨hv2, hF⟩
  · refine g_lsw (tgt := 84) (off := 83) K dX4_tight_1 (by decide) (by rw [hv]; rfl) (by decide) ?_
    refine g_iconst K dX4_tight_84 lc_5 ?_
    exact m_iretP K hF ag.rf dX4_tight_85
  rcases sw_eq hF with ⟨hv, hF⟩ | ⟨hv3, hF⟩
  · refine g_lsw (tgt := 84) (off := 83) K dX4_tight_1 (by decide) (by rw [hv]; rfl) (by decide) ?_
    refine g_iconst K dX4_tight_84 lc_5 ?_
    exact m_iretP K hF ag.rf dX4_tight_85
  rcases sw_eq hF with ⟨hv, hF⟩ | ⟨hv4, hF⟩
  · refine g_lsw (tgt := 82) (off := 81) K dX4_tight_1 (by decide) (by rw [hv]; rfl) (by decide) ?_
    refine g_iconst K dX4_tight_82 lc_4 ?_
    exact m_iretP K hF ag.rf dX4_tight_83
  rcases sw_eq hF with ⟨hv, hF⟩ | ⟨hv5, hF⟩
  · refine g_lsw (tgt := 82) (off := 81) K dX4_tight_1 (by decide) (by rw [hv]; rfl) (by decide) ?_
    refine g_iconst K dX4_tight_82 lc_4 ?_
    exact m_iretP K hF ag.rf dX4_tight_83
  rcases sw_eq hF with ⟨hv, hF⟩ | ⟨hv6, hF⟩
  · refine g_lsw (tgt := 82) (off := 81) K dX4_tight_1 (by decide) (by rw [hv]; rfl) (by decide) ?_
    refine g_iconst K dX4_tight_82 lc_4 ?_
    exact m_iretP K hF ag.rf dX4_tight_83
  rcases sw_eq hF with ⟨hv, hF⟩ | ⟨hv7, hF⟩
  · refine g_lsw (tgt := 76) (off := 75) K dX4_tight_1 (by decide) (by rw [hv]; rfl) (by decide) ?_
    refine g_iconst K dX4_tight_76 lc_1 ?_
    exact m_iretP K hF ag.rf dX4_tight_77
  refine g_lsw (tgt := 86) (off := 85) K dX4_tight_1 (by decide) (by show Op.lookupswitch.offset [(21, 79), (38, 77), (43, 83), (45, 83), (60, 81), (61, 81), (62, 81), (124, 75)] _ _ = _; rw [lv_osw (a := 21) hv0 rfl]; rw [lv_osw (a := 38) hv1 rfl]; rw [lv_osw (a := 43) hv2 rfl]; rw [lv_osw (a := 45) hv3 rfl]; rw [lv_osw (a := 60) hv4 rfl]; rw [lv_osw (a := 61) hv5 rfl]; rw [lv_osw (a := 62) hv6 rfl]; rw [lv_osw (a := 124) hv7 rfl]; rfl) (by decide) ?_
  refine g_bipush K dX4_tight_86 lb_6 ?_
  exact m_iretP K hF ag.rf dX4_tight_88

theorem cp_close : cpV yX4_close cX4_close 2 none 1 := ⟨q1926, qs82, q152, q1927, by decide +kernel⟩
set_option maxHeartbeats 4000000 in
set_option maxRecDepth 100000 in
theorem w_close {l : Launch} {D : va_G} {cz : Nat → ClassId} {qm : Nat} (G : Nat) (σ0 : MS) (a0 : Int32) (r : MS) (hF : M_close G σ0 a0 = some r) : mMet l D cz qm yX4_close cX4_close 2 none 1 wr_close [.ref qm, .int a0] σ0 none r := by
  refine m_of (by decide) rfl ?_
  intro p e s m args below meth c ls K hl
  have B0 : ∀ (k0 : MS → Int32 → Option MS) (hk0 : (∀ (σ : MS) (x1 : Int32) (ls : Array Slot), k0 σ x1 = some r → ag wr_close σ0 σ → lq ls 2 [(0, some (.ref qm)), (1, some (.int x1))] → ZM p l e 1 s m args below meth c D cz qm wr_close σ0 none r σ (F0 m 0 ls []))) (σ : MS) (x1 : Int32) (ls : Array Slot), M_close_B0 G k0 σ x1 = some r → ag wr_close σ0 σ → lq ls 2 [(0, some (.ref qm)), (1, some (.int x1))] → ZM p l e 1 s m args below meth c D cz qm wr_close σ0 none r σ (F0 m 0 ls []) := by
    intro k0 hk0 σ x1 ls hF ha hl
    unfold M_close_B0 at hF
    refine g_aload_n (i := 0) K hl dX4_close_0 rfl rfl ?_
    refine mget_19 K dX4_close_1 ?_
    refine g_if_le (tgt := 101) K hF dX4_close_4 (by decide) (fun hF => ?_) (fun hF => ?_)
    · exact m_vretV K hF ha dX4_close_101
    · refine g_aload_n (i := 0) K hl dX4_close_7 rfl rfl ?_
      refine mget_16 K dX4_close_8 ?_
      refine g_aload_n (i := 0) K hl dX4_close_11 rfl rfl ?_
      refine mget_19 K dX4_close_12 ?_
      refine g_iconst K dX4_close_15 lc_1 ?_
      refine g_isub K dX4_close_16 ?_
      refine mld_16 K hF dX4_close_17 (fun t1 hF => ?_)
      refine g_bipush K dX4_close_18 lb_20 ?_
      refine g_icmp_eq (tgt := 101) K hF dX4_close_20 (by decide) (fun hF => ?_) (fun hF => ?_)
      · exact m_vretV K hF ha dX4_close_101
      · refine g_aload_n (i := 0) K hl dX4_close_23 rfl rfl ?_
        refine mget_16 K dX4_close_24 ?_
        refine g_aload_n (i := 0) K hl dX4_close_27 rfl rfl ?_
        refine mget_19 K dX4_close_28 ?_
        refine g_iconst K dX4_close_31 lc_1 ?_
        refine g_isub K dX4_close_32 ?_
        refine mld_16 K hF dX4_close_33 (fun t2 hF => ?_)
        refine m_callSP K hl hF (fun t h => w_tight _ _ t h) cp_tight q1884 rfl rfl rfl rfl rfl dX4_close_34 (fun t3 hF => ?_)
        refine g_iload_n (i := 1) K hl dX4_close_37 rfl rfl ?_
        refine g_icmp_lt (tgt := 101) K hF dX4_close_38 (by decide) (fun hF => ?_) (fun hF => ?_)
        · exact m_vretV K hF ha dX4_close_101
        · refine g_aload_n (i := 0) K hl dX4_close_41 rfl rfl ?_
          refine g_dup K dX4_close_42 rfl ?_
          refine mget_19 K dX4_close_43 ?_
          refine g_iconst K dX4_close_46 lc_1 ?_
          refine g_isub K dX4_close_47 ?_
          refine mput_19 K hF ha rfl dX4_close_48 (fun σ4 hF ha => ?_)
          refine g_aload_n (i := 0) K hl dX4_close_51 rfl rfl ?_
          refine mget_16 K dX4_close_52 ?_
          refine g_aload_n (i := 0) K hl dX4_close_55 rfl rfl ?_
          refine mget_19 K dX4_close_56 ?_
          refine mld_16 K hF dX4_close_59 (fun t5 hF => ?_)
          refine g_bipush K dX4_close_60 lb_21 ?_
          refine g_icmp_ne (tgt := 84) K hF dX4_close_62 (by decide) (fun hF => ?_) (fun hF => ?_)
          · refine g_aload_n (i := 0) K hl dX4_close_84 rfl rfl ?_
            refine g_iconst K dX4_close_85 lc_3 ?_
            refine g_aload_n (i := 0) K hl dX4_close_86 rfl rfl ?_
            refine mget_16 K dX4_close_87 ?_
            refine g_aload_n (i := 0) K hl dX4_close_90 rfl rfl ?_
            refine mget_19 K dX4_close_91 ?_
            refine mld_16 K hF dX4_close_94 (fun t6 hF => ?_)
            refine m_callVV K hl hF ha rfl (fun t h => w_add _ _ _ t h) rfl cp_add q1910 rfl rfl rfl rfl rfl dX4_close_95 (fun σ7 hF ha => ?_)
            refine g_goto (tgt := 0) K dX4_close_98 (by decide) ?_
            exact hk0 _ _ ls hF ha (lq_sub hl rfl)
          · refine g_aload_n (i := 0) K hl dX4_close_65 rfl rfl ?_
            refine g_iconst K dX4_close_66 lc_2 ?_
            refine g_iconst K dX4_close_67 lc_0 ?_
            refine m_callVV K hl hF ha rfl (fun t h => w_add _ _ _ t h) rfl cp_add q1910 rfl rfl rfl rfl rfl dX4_close_68 (fun σ8 hF ha => ?_)
            refine g_aload_n (i := 0) K hl dX4_close_71 rfl rfl ?_
            refine g_dup K dX4_close_72 rfl ?_
            refine mget_23 K dX4_close_73 ?_
            refine g_iconst K dX4_close_76 lc_1 ?_
            refine g_isub K dX4_close_77 ?_
            refine mput_23 K hF ha rfl dX4_close_78 (fun σ9 hF ha => ?_)
            refine g_goto (tgt := 0) K dX4_close_81 (by decide) ?_
            exact hk0 _ _ ls hF ha (lq_sub hl rfl)
  have L0 : ∀  (n : Nat) (σ : MS) (x1 : Int32) (ls : Array Slot), M_close_L0 G  n σ x1 = some r → ag wr_close σ0 σ → lq ls 2 [(0, some (.ref qm)), (1, some (.int x1))] → ZM p l e 1 s m args below meth c D cz qm wr_close σ0 none r σ (F0 m 0 ls []) := by
    intro  n
    induction n with
    | zero => intro σ x1 ls hF; exact absurd hF (fun h => by cases h)
    | succ n ih => intro σ x1 ls hF ha hl; exact B0  _ ih _ _ ls hF ha hl
  have ha : ag wr_close σ0 σ0 := ag.rf
  unfold M_close at hF
  exact L0  G _ _ ls hF ha (lq_sub hl rfl)

theorem cp_hasRelation : cpV yX4_hasRelation cX4_hasRelation 2 (some .boolean) 0 := ⟨q1930, qs83, q152, q1931, by decide +kernel⟩
set_option maxHeartbeats 4000000 in
set_option maxRecDepth 100000 in
theorem w_hasRelation {l : Launch} {D : va_G} {cz : Nat → ClassId} {qm : Nat} (G : Nat) (σ0 : MS)  (r : Int32) (hF : M_hasRelation G σ0 = some r) : mMet l D cz qm yX4_hasRelation cX4_hasRelation 2 (some .boolean) 1 wr_hasRelation [.ref qm] σ0 (some (.int r)) σ0 := by
  refine m_of (by decide) rfl ?_
  intro p e s m args below meth c ls K hl
  have L41 : ∀  (x1 : Int32) (ls : Array Slot), M_hasRelation_L41 G σ0  x1 = some r → lq ls 2 [(0, some (.ref qm)), (1, some (.int x1))] → ZM p l e 1 s m args below meth c D cz qm wr_hasRelation σ0 (some (.int r)) σ0 σ0 (F0 m 41 ls []) := by
    intro  x1 ls hF hl
    unfold M_hasRelation_L41 at hF
    refine g_iload_n (i := 1) K hl dX4_hasRelation_41 rfl rfl ?_
    refine g_if_lt (tgt := 73) K hF dX4_hasRelation_42 (by decide) (fun hF => ?_) (fun hF => ?_)
    · refine g_iconst K dX4_hasRelation_73 lc_0 ?_
      exact m_zretP K hF (Or.inl rfl) ag.rf dX4_hasRelation_74
    · refine g_aload_n (i := 0) K hl dX4_hasRelation_45 rfl rfl ?_
      refine mget_16 K dX4_hasRelation_46 ?_
      refine g_iload_n (i := 1) K hl dX4_hasRelation_49 rfl rfl ?_
      refine mld_16 K hF dX4_hasRelation_50 (fun t1 hF => ?_)
      refine g_bipush K dX4_hasRelation_51 lb_20 ?_
      refine g_icmp_eq (tgt := 73) K hF dX4_hasRelation_53 (by decide) (fun hF => ?_) (fun hF => ?_)
      · refine g_iconst K dX4_hasRelation_73 lc_0 ?_
        exact m_zretP K hF (Or.inl rfl) ag.rf dX4_hasRelation_74
      · refine g_aload_n (i := 0) K hl dX4_hasRelation_56 rfl rfl ?_
        refine mget_16 K dX4_hasRelation_57 ?_
        refine g_iload_n (i := 1) K hl dX4_hasRelation_60 rfl rfl ?_
        refine mld_16 K hF dX4_hasRelation_61 (fun t2 hF => ?_)
        refine m_callSP K hl hF (fun t h => w_tight _ _ t h) cp_tight q1884 rfl rfl rfl rfl rfl dX4_hasRelation_62 (fun t3 hF => ?_)
        refine g_iconst K dX4_hasRelation_65 lc_4 ?_
        refine g_icmp_ne (tgt := 73) K hF dX4_hasRelation_66 (by decide) (fun hF => ?_) (fun hF => ?_)
        · refine g_iconst K dX4_hasRelation_73 lc_0 ?_
          exact m_zretP K hF (Or.inl rfl) ag.rf dX4_hasRelation_74
        · refine g_iconst K dX4_hasRelation_69 lc_1 ?_
          refine g_goto (tgt := 74) K dX4_hasRelation_70 (by decide) ?_
          exact m_zretP K hF (Or.inr rfl) ag.rf dX4_hasRelation_74
  have B7 : ∀ (k7 : Int32 → Option Int32) (hk7 : (∀ (x1 : Int32) (ls : Array Slot), k7 x1 = some r → lq ls 2 [(0, some (.ref qm)), (1, some (.int x1))] → ZM p l e 1 s m args below meth c D cz qm wr_hasRelation σ0 (some (.int r)) σ0 σ0 (F0 m 7 ls []))) (x1 : Int32) (ls : Array Slot), M_hasRelation_B7 G σ0 k7 x1 = some r → lq ls 2 [(0, some (.ref qm)), (1, some (.int x1))] → ZM p l e 1 s m args below meth c D cz qm wr_hasRelation σ0 (some (.int r)) σ0 σ0 (F0 m 7 ls []) := by
    intro k7 hk7 x1 ls hF hl
    unfold M_hasRelation_B7 at hF
    refine g_iload_n (i := 1) K hl dX4_hasRelation_7 rfl rfl ?_
    refine g_if_lt (tgt := 41) K hF dX4_hasRelation_8 (by decide) (fun hF => ?_) (fun hF => ?_)
    · exact L41  _ ls hF (lq_sub hl rfl)
    · refine g_aload_n (i := 0) K hl dX4_hasRelation_11 rfl rfl ?_
      refine mget_16 K dX4_hasRelation_12 ?_
      refine g_iload_n (i := 1) K hl dX4_hasRelation_15 rfl rfl ?_
      refine mld_16 K hF dX4_hasRelation_16 (fun t1 hF => ?_)
      refine g_bipush K dX4_hasRelation_17 lb_20 ?_
      refine g_icmp_eq (tgt := 41) K hF dX4_hasRelation_19 (by decide) (fun hF => ?_) (fun hF => ?_)
      · exact L41  _ ls hF (lq_sub hl rfl)
      · refine g_aload_n (i := 0) K hl dX4_hasRelation_22 rfl rfl ?_
        refine mget_16 K dX4_hasRelation_23 ?_
        refine g_iload_n (i := 1) K hl dX4_hasRelation_26 rfl rfl ?_
        refine mld_16 K hF dX4_hasRelation_27 (fun t2 hF => ?_)
        refine m_callSP K hl hF (fun t h => w_tight _ _ t h) cp_tight q1884 rfl rfl rfl rfl rfl dX4_hasRelation_28 (fun t3 hF => ?_)
        refine g_iconst K dX4_hasRelation_31 lc_4 ?_
        refine g_icmp_le (tgt := 41) K hF dX4_hasRelation_32 (by decide) (fun hF => ?_) (fun hF => ?_)
        · exact L41  _ ls hF (lq_sub hl rfl)
        · refine g_iinc (i := 1) K hl dX4_hasRelation_35 rfl lc_m1 rfl rfl (fun ls hl => ?_)
          refine g_goto (tgt := 7) K dX4_hasRelation_38 (by decide) ?_
          exact hk7 _ ls hF (lq_sub hl rfl)
  have L7 : ∀  (n : Nat) (x1 : Int32) (ls : Array Slot), M_hasRelation_L7 G σ0  n x1 = some r → lq ls 2 [(0, some (.ref qm)), (1, some (.int x1))] → ZM p l e 1 s m args below meth c D cz qm wr_hasRelation σ0 (some (.int r)) σ0 σ0 (F0 m 7 ls []) := by
    intro  n
    induction n with
    | zero => intro x1 ls hF; exact absurd hF (fun h => by cases h)
    | succ n ih => intro x1 ls hF hl; exact B7  _ ih _ ls hF hl
  unfold M_hasRelation at hF
  refine g_aload_n (i := 0) K hl dX4_hasRelation_0 rfl rfl ?_
  refine mget_19 K dX4_hasRelation_1 ?_
  refine g_iconst K dX4_hasRelation_4 lc_1 ?_
  refine g_isub K dX4_hasRelation_5 ?_
  refine g_istore_n (i := 1) K hl dX4_hasRelation_6 rfl rfl rfl (fun ls hl => ?_)
  exact L7  G _ ls hF (lq_sub hl rfl)

theorem cp_mayNot : cpV yX4_mayNot cX4_mayNot 1 (some .boolean) 0 := ⟨q1882, qs74, q152, q1883, by decide +kernel⟩
set_option maxHeartbeats 4000000 in
set_option maxRecDepth 100000 in
theorem w_mayNot {l : Launch} {D : va_G} {cz : Nat → ClassId} {qm : Nat} (σ0 : MS)  (r : Int32) (hF : M_mayNot σ0 = some r) : mMet l D cz qm yX4_mayNot cX4_mayNot 1 (some .boolean) 1 wr_mayNot [.ref qm] σ0 (some (.int r)) σ0 := by
  refine m_of (by decide) rfl ?_
  intro p e s m args below meth c ls K hl
  unfold M_mayNot at hF
  refine g_aload_n (i := 0) K hl dX4_mayNot_0 rfl rfl ?_
  refine mget_19 K dX4_mayNot_1 ?_
  refine g_if_eq (tgt := 41) K hF dX4_mayNot_4 (by decide) (fun hF => ?_) (fun hF => ?_)
  · refine g_iconst K dX4_mayNot_41 lc_1 ?_
    refine g_goto (tgt := 46) K dX4_mayNot_42 (by decide) ?_
    exact m_zretP K hF (Or.inr rfl) ag.rf dX4_mayNot_46
  · refine g_aload_n (i := 0) K hl dX4_mayNot_7 rfl rfl ?_
    refine mget_16 K dX4_mayNot_8 ?_
    refine g_aload_n (i := 0) K hl dX4_mayNot_11 rfl rfl ?_
    refine mget_19 K dX4_mayNot_12 ?_
    refine g_iconst K dX4_mayNot_15 lc_1 ?_
    refine g_isub K dX4_mayNot_16 ?_
    refine mld_16 K hF dX4_mayNot_17 (fun t1 hF => ?_)
    refine g_bipush K dX4_mayNot_18 lb_20 ?_
    refine g_icmp_eq (tgt := 41) K hF dX4_mayNot_20 (by decide) (fun hF => ?_) (fun hF => ?_)
    · refine g_iconst K dX4_mayNot_41 lc_1 ?_
      refine g_goto (tgt := 46) K dX4_mayNot_42 (by decide) ?_
      exact m_zretP K hF (Or.inr rfl) ag.rf dX4_mayNot_46
    · refine g_aload_n (i := 0) K hl dX4_mayNot_23 rfl rfl ?_
      refine mget_16 K dX4_mayNot_24 ?_
      refine g_aload_n (i := 0) K hl dX4_mayNot_27 rfl rfl ?_
      refine mget_19 K dX4_mayNot_28 ?_
      refine g_iconst K dX4_mayNot_31 lc_1 ?_
      refine g_isub K dX4_mayNot_32 ?_
      refine mld_16 K hF dX4_mayNot_33 (fun t2 hF => ?_)
      refine m_callSP K hl hF (fun t h => w_tight _ _ t h) cp_tight q1884 rfl rfl rfl rfl rfl dX4_mayNot_34 (fun t3 hF => ?_)
      refine g_iconst K dX4_mayNot_37 lc_4 ?_
      refine g_icmp_ge (tgt := 45) K hF dX4_mayNot_38 (by decide) (fun hF => ?_) (fun hF => ?_)
      · refine g_iconst K dX4_mayNot_45 lc_0 ?_
        exact m_zretP K hF (Or.inl rfl) ag.rf dX4_mayNot_46
      · refine g_iconst K dX4_mayNot_41 lc_1 ?_
        refine g_goto (tgt := 46) K dX4_mayNot_42 (by decide) ?_
        exact m_zretP K hF (Or.inr rfl) ag.rf dX4_mayNot_46

theorem cp_asked : cpV yX4_asked cX4_asked 1 (some .int) 0 := ⟨q1901, qs78, q152, q1902, by decide +kernel⟩
set_option maxHeartbeats 4000000 in
set_option maxRecDepth 100000 in
theorem w_asked {l : Launch} {D : va_G} {cz : Nat → ClassId} {qm : Nat} (σ0 : MS)  (r : Int32) (hF : M_asked σ0 = some r) : mMet l D cz qm yX4_asked cX4_asked 1 (some .int) 0 wr_asked [.ref qm] σ0 (some (.int r)) σ0 := by
  refine m_of (by decide) rfl ?_
  intro p e s m args below meth c ls K hl
  unfold M_asked at hF
  refine g_aload_n (i := 0) K hl dX4_asked_0 rfl rfl ?_
  refine mget_6 K dX4_asked_1 ?_
  refine g_iconst K dX4_asked_4 lc_1 ?_
  refine g_icmp_eq (tgt := 10) K hF dX4_asked_5 (by decide) (fun hF => ?_) (fun hF => ?_)
  · refine g_aload_n (i := 0) K hl dX4_asked_10 rfl rfl ?_
    refine mget_9 K dX4_asked_11 ?_
    refine g_ldc2 K dX4_asked_14 q1903 ?_
    refine g_lcmp K dX4_asked_17 ?_
    refine g_if_ne (tgt := 23) K hF dX4_asked_18 (by decide) (fun hF => ?_) (fun hF => ?_)
    · refine g_aload_n (i := 0) K hl dX4_asked_23 rfl rfl ?_
      refine mget_9 K dX4_asked_24 ?_
      refine g_ldc2 K dX4_asked_27 q1904 ?_
      refine g_lcmp K dX4_asked_30 ?_
      refine g_if_ne (tgt := 36) K hF dX4_asked_31 (by decide) (fun hF => ?_) (fun hF => ?_)
      · refine g_aload_n (i := 0) K hl dX4_asked_36 rfl rfl ?_
        refine mget_9 K dX4_asked_37 ?_
        refine g_ldc2 K dX4_asked_40 q1867 ?_
        refine g_lcmp K dX4_asked_43 ?_
        refine g_if_ne (tgt := 49) K hF dX4_asked_44 (by decide) (fun hF => ?_) (fun hF => ?_)
        · refine g_aload_n (i := 0) K hl dX4_asked_49 rfl rfl ?_
          refine mget_9 K dX4_asked_50 ?_
          refine g_ldc2 K dX4_asked_53 q1868 ?_
          refine g_lcmp K dX4_asked_56 ?_
          refine g_if_ne (tgt := 62) K hF dX4_asked_57 (by decide) (fun hF => ?_) (fun hF => ?_)
          · refine g_aload_n (i := 0) K hl dX4_asked_62 rfl rfl ?_
            refine mget_9 K dX4_asked_63 ?_
            refine g_ldc2 K dX4_asked_66 q1905 ?_
            refine g_lcmp K dX4_asked_69 ?_
            refine g_if_ne (tgt := 75) K hF dX4_asked_70 (by decide) (fun hF => ?_) (fun hF => ?_)
            · refine g_aload_n (i := 0) K hl dX4_asked_75 rfl rfl ?_
              refine mget_9 K dX4_asked_76 ?_
              refine g_ldc2 K dX4_asked_79 q1906 ?_
              refine g_lcmp K dX4_asked_82 ?_
              refine g_if_ne (tgt := 88) K hF dX4_asked_83 (by decide) (fun hF => ?_) (fun hF => ?_)
              · refine g_aload_n (i := 0) K hl dX4_asked_88 rfl rfl ?_
                refine mget_9 K dX4_asked_89 ?_
                refine g_ldc2 K dX4_asked_92 q1907 ?_
                refine g_lcmp K dX4_asked_95 ?_
                refine g_if_ne (tgt := 102) K hF dX4_asked_96 (by decide) (fun hF => ?_) (fun hF => ?_)
                · refine g_aload_n (i := 0) K hl dX4_asked_102 rfl rfl ?_
                  refine mget_9 K dX4_asked_103 ?_
                  refine g_ldc2 K dX4_asked_106 q1908 ?_
                  refine g_lcmp K dX4_asked_109 ?_
                  refine g_if_ne (tgt := 116) K hF dX4_asked_110 (by decide) (fun hF => ?_) (fun hF => ?_)
                  · refine g_aload_n (i := 0) K hl dX4_asked_116 rfl rfl ?_
                    refine mget_9 K dX4_asked_117 ?_
                    refine g_ldc2 K dX4_asked_120 q1909 ?_
                    refine g_lcmp K dX4_asked_123 ?_
                    refine g_if_ne (tgt := 130) K hF dX4_asked_124 (by decide) (fun hF => ?_) (fun hF => ?_)
                    · refine g_aload_n (i := 0) K hl dX4_asked_130 rfl rfl ?_
                      refine mget_9 K dX4_asked_131 ?_
                      refine g_ldc2 K dX4_asked_134 q1861 ?_
                      refine g_lcmp K dX4_asked_137 ?_
                      refine g_if_ne (tgt := 146) K hF dX4_asked_138 (by decide) (fun hF => ?_) (fun hF => ?_)
                      · refine g_iconst K dX4_asked_146 lc_m1 ?_
                        exact m_iretP K hF ag.rf dX4_asked_147
                      · refine g_bipush K dX4_asked_141 lb_9 ?_
                        refine g_goto (tgt := 147) K dX4_asked_143 (by decide) ?_
                        exact m_iretP K hF ag.rf dX4_asked_147
                    · refine g_bipush K dX4_asked_127 lb_8 ?_
                      exact m_iretP K hF ag.rf dX4_asked_129
                  · refine g_bipush K dX4_asked_113 lb_7 ?_
                    exact m_iretP K hF ag.rf dX4_asked_115
                · refine g_bipush K dX4_asked_99 lb_6 ?_
                  exact m_iretP K hF ag.rf dX4_asked_101
              · refine g_iconst K dX4_asked_86 lc_5 ?_
                exact m_iretP K hF ag.rf dX4_asked_87
            · refine g_iconst K dX4_asked_73 lc_4 ?_
              exact m_iretP K hF ag.rf dX4_asked_74
          · refine g_iconst K dX4_asked_60 lc_3 ?_
            exact m_iretP K hF ag.rf dX4_asked_61
        · refine g_iconst K dX4_asked_47 lc_2 ?_
          exact m_iretP K hF ag.rf dX4_asked_48
      · refine g_iconst K dX4_asked_34 lc_1 ?_
        exact m_iretP K hF ag.rf dX4_asked_35
    · refine g_iconst K dX4_asked_21 lc_0 ?_
      exact m_iretP K hF ag.rf dX4_asked_22
  · refine g_iconst K dX4_asked_8 lc_m1 ?_
    exact m_iretP K hF ag.rf dX4_asked_9

theorem cp_isFull : cpV yX4_isFull cX4_isFull 1 (some .boolean) 0 := ⟨q1893, qs76, q152, q1894, by decide +kernel⟩
set_option maxHeartbeats 4000000 in
set_option maxRecDepth 100000 in
theorem w_isFull {l : Launch} {D : va_G} {cz : Nat → ClassId} {qm : Nat} (σ0 : MS)  (r : Int32) (hF : M_isFull σ0 = some r) : mMet l D cz qm yX4_isFull cX4_isFull 1 (some .boolean) 0 wr_isFull [.ref qm] σ0 (some (.int r)) σ0 := by
  refine m_of (by decide) rfl ?_
  intro p e s m args below meth c ls K hl
  unfold M_isFull at hF
  refine g_aload_n (i := 0) K hl dX4_isFull_0 rfl rfl ?_
  refine mget_20 K dX4_isFull_1 ?_
  refine g_bipush K dX4_isFull_4 lb_90 ?_
  refine g_icmp_eq (tgt := 18) K hF dX4_isFull_6 (by decide) (fun hF => ?_) (fun hF => ?_)
  · refine g_iconst K dX4_isFull_18 lc_1 ?_
    refine g_goto (tgt := 23) K dX4_isFull_19 (by decide) ?_
    exact m_zretP K hF (Or.inr rfl) ag.rf dX4_isFull_23
  · refine g_aload_n (i := 0) K hl dX4_isFull_9 rfl rfl ?_
    refine mget_22 K dX4_isFull_10 ?_
    refine g_bipush K dX4_isFull_13 lb_30 ?_
    refine g_icmp_ne (tgt := 22) K hF dX4_isFull_15 (by decide) (fun hF => ?_) (fun hF => ?_)
    · refine g_iconst K dX4_isFull_22 lc_0 ?_
      exact m_zretP K hF (Or.inl rfl) ag.rf dX4_isFull_23
    · refine g_iconst K dX4_isFull_18 lc_1 ?_
      refine g_goto (tgt := 23) K dX4_isFull_19 (by decide) ?_
      exact m_zretP K hF (Or.inr rfl) ag.rf dX4_isFull_23

theorem cp_countUnit : cpV yX4_countUnit cX4_countUnit 1 none 0 := ⟨q1897, qs77, q152, q1898, by decide +kernel⟩
set_option maxHeartbeats 4000000 in
set_option maxRecDepth 100000 in
theorem w_countUnit {l : Launch} {D : va_G} {cz : Nat → ClassId} {qm : Nat} (σ0 : MS)  (r : MS) (hF : M_countUnit σ0 = some r) : mMet l D cz qm yX4_countUnit cX4_countUnit 1 none 0 wr_countUnit [.ref qm] σ0 none r := by
  refine m_of (by decide) rfl ?_
  intro p e s m args below meth c ls K hl
  have ha : ag wr_countUnit σ0 σ0 := ag.rf
  unfold M_countUnit at hF
  refine g_aload_n (i := 0) K hl dX4_countUnit_0 rfl rfl ?_
  refine g_dup K dX4_countUnit_1 rfl ?_
  refine mget_20 K dX4_countUnit_2 ?_
  refine g_iconst K dX4_countUnit_5 lc_1 ?_
  refine g_iadd K dX4_countUnit_6 ?_
  refine mput_20 K hF ha rfl dX4_countUnit_7 (fun σ1 hF ha => ?_)
  refine g_aload_n (i := 0) K hl dX4_countUnit_10 rfl rfl ?_
  refine g_dup K dX4_countUnit_11 rfl ?_
  refine mget_22 K dX4_countUnit_12 ?_
  refine g_iconst K dX4_countUnit_15 lc_1 ?_
  refine g_iadd K dX4_countUnit_16 ?_
  refine mput_22 K hF ha rfl dX4_countUnit_17 (fun σ2 hF ha => ?_)
  exact m_vretV K hF ha dX4_countUnit_20

theorem cp_openUp : cpV yX4_openUp cX4_openUp 2 none 1 := ⟨q1889, qs75, q152, q1890, by decide +kernel⟩
set_option maxHeartbeats 4000000 in
set_option maxRecDepth 100000 in
theorem w_openUp {l : Launch} {D : va_G} {cz : Nat → ClassId} {qm : Nat} (G : Nat) (σ0 : MS) (a0 : Int32) (r : MS) (hF : M_openUp G σ0 a0 = some r) : mMet l D cz qm yX4_openUp cX4_openUp 2 none 2 wr_openUp [.ref qm, .int a0] σ0 none r := by
  refine m_of (by decide) rfl ?_
  intro p e s m args below meth c ls K hl
  have ha : ag wr_openUp σ0 σ0 := ag.rf
  unfold M_openUp at hF
  refine g_aload_n (i := 0) K hl dX4_openUp_0 rfl rfl ?_
  refine mget_16 K dX4_openUp_1 ?_
  refine g_aload_n (i := 0) K hl dX4_openUp_4 rfl rfl ?_
  refine mget_19 K dX4_openUp_5 ?_
  refine g_iload_n (i := 1) K hl dX4_openUp_8 rfl rfl ?_
  refine mst_16 K hF ha rfl dX4_openUp_9 (fun σ1 hF ha => ?_)
  refine g_aload_n (i := 0) K hl dX4_openUp_10 rfl rfl ?_
  refine g_dup K dX4_openUp_11 rfl ?_
  refine mget_19 K dX4_openUp_12 ?_
  refine g_iconst K dX4_openUp_15 lc_1 ?_
  refine g_iadd K dX4_openUp_16 ?_
  refine mput_19 K hF ha rfl dX4_openUp_17 (fun σ2 hF ha => ?_)
  refine g_aload_n (i := 0) K hl dX4_openUp_20 rfl rfl ?_
  refine g_dup K dX4_openUp_21 rfl ?_
  refine mget_23 K dX4_openUp_22 ?_
  refine g_iconst K dX4_openUp_25 lc_1 ?_
  refine g_iadd K dX4_openUp_26 ?_
  refine mput_23 K hF ha rfl dX4_openUp_27 (fun σ3 hF ha => ?_)
  refine g_aload_n (i := 0) K hl dX4_openUp_30 rfl rfl ?_
  refine mget_2 K dX4_openUp_31 ?_
  refine g_if_ne (tgt := 41) K hF dX4_openUp_34 (by decide) (fun hF => ?_) (fun hF => ?_)
  · exact m_vretV K hF ha dX4_openUp_41
  · refine g_aload_n (i := 0) K hl dX4_openUp_37 rfl rfl ?_
    refine m_callVV K hl hF ha rfl (fun t h => w_token G _  t h) rfl cp_token q1814 rfl rfl rfl rfl rfl dX4_openUp_38 (fun σ4 hF ha => ?_)
    exact m_vretV K hF ha dX4_openUp_41

theorem cp_unit : cpV yX4_unit cX4_unit 3 none 0 := ⟨q1877, qs73, q152, q1878, by decide +kernel⟩
set_option maxHeartbeats 4000000 in
set_option maxRecDepth 100000 in
theorem w_unit {l : Launch} {D : va_G} {cz : Nat → ClassId} {qm : Nat} (G : Nat) (σ0 : MS)  (r : MS) (hF : M_unit G σ0 = some r) : mMet l D cz qm yX4_unit cX4_unit 3 none 3 wr_unit [.ref qm] σ0 none r := by
  refine m_of (by decide) rfl ?_
  intro p e s m args below meth c ls K hl
  have L172 : ∀  (σ : MS) (s1 : Int32) (s2 : Int32) (ls : Array Slot), M_unit_L172 G  σ s1 s2 = some r → ag wr_unit σ0 σ → lq ls 3 [(0, some (.ref qm))] → ZM p l e 3 s m args below meth c D cz qm wr_unit σ0 none r σ (F0 m 172 ls [.int s2, .int s1, .ref qm]) := by
    intro  σ s1 s2 ls hF ha hl
    unfold M_unit_L172 at hF
    refine m_callVV K hl hF ha rfl (fun t h => w_add _ _ _ t h) rfl cp_add q1910 rfl rfl rfl rfl rfl dX4_unit_172 (fun σ1 hF ha => ?_)
    refine g_aload_n (i := 0) K hl dX4_unit_175 rfl rfl ?_
    refine m_callVV K hl hF ha rfl (fun t h => w_token G _  t h) rfl cp_token q1814 rfl rfl rfl rfl rfl dX4_unit_176 (fun σ2 hF ha => ?_)
    exact m_vretV K hF ha dX4_unit_179
  have L160 : ∀  (σ : MS) (x2 : Int32) (s1 : Int32) (ls : Array Slot), M_unit_L160 G  σ x2 s1 = some r → ag wr_unit σ0 σ → lq ls 3 [(0, some (.ref qm)), (2, some (.int x2))] → ZM p l e 3 s m args below meth c D cz qm wr_unit σ0 none r σ (F0 m 160 ls [.int s1, .ref qm]) := by
    intro  σ x2 s1 ls hF ha hl
    unfold M_unit_L160 at hF
    refine g_iload_n (i := 2) K hl dX4_unit_160 rfl rfl ?_
    refine g_if_ge (tgt := 171) K hF dX4_unit_161 (by decide) (fun hF => ?_) (fun hF => ?_)
    · refine g_iload_n (i := 2) K hl dX4_unit_171 rfl rfl ?_
      exact L172  _ _ _ ls hF ha (lq_sub hl rfl)
    · refine g_aload_n (i := 0) K hl dX4_unit_164 rfl rfl ?_
      refine mget_8 K dX4_unit_165 ?_
      refine g_goto (tgt := 172) K dX4_unit_168 (by decide) ?_
      exact L172  _ _ _ ls hF ha (lq_sub hl rfl)
  have L138 : ∀  (σ : MS) (x2 : Int32) (ls : Array Slot), M_unit_L138 G  σ x2 = some r → ag wr_unit σ0 σ → lq ls 3 [(0, some (.ref qm)), (2, some (.int x2))] → ZM p l e 3 s m args below meth c D cz qm wr_unit σ0 none r σ (F0 m 138 ls []) := by
    intro  σ x2 ls hF ha hl
    unfold M_unit_L138 at hF
    refine g_aload_n (i := 0) K hl dX4_unit_138 rfl rfl ?_
    refine mget_2 K dX4_unit_139 ?_
    refine g_if_le (tgt := 146) K hF dX4_unit_142 (by decide) (fun hF => ?_) (fun hF => ?_)
    · refine g_aload_n (i := 0) K hl dX4_unit_146 rfl rfl ?_
      refine m_callVV K hl hF ha rfl (fun t h => w_countUnit _  t h) rfl cp_countUnit q1895 rfl rfl rfl rfl rfl dX4_unit_147 (fun σ1 hF ha => ?_)
      refine g_aload_n (i := 0) K hl dX4_unit_150 rfl rfl ?_
      refine g_iload_n (i := 2) K hl dX4_unit_151 rfl rfl ?_
      refine g_if_ge (tgt := 159) K hF dX4_unit_152 (by decide) (fun hF => ?_) (fun hF => ?_)
      · refine g_iconst K dX4_unit_159 lc_1 ?_
        exact L160  _ _ _ ls hF ha (lq_sub hl rfl)
      · refine g_iconst K dX4_unit_155 lc_0 ?_
        refine g_goto (tgt := 160) K dX4_unit_156 (by decide) ?_
        exact L160  _ _ _ ls hF ha (lq_sub hl rfl)
    · exact m_vretV K hF ha dX4_unit_145
  have L133 : ∀  (σ : MS) (x2 : Int32) (ls : Array Slot), M_unit_L133 G  σ x2 = some r → ag wr_unit σ0 σ → lq ls 3 [(0, some (.ref qm)), (2, some (.int x2))] → ZM p l e 3 s m args below meth c D cz qm wr_unit σ0 none r σ (F0 m 133 ls []) := by
    intro  σ x2 ls hF ha hl
    unfold M_unit_L133 at hF
    refine g_aload_n (i := 0) K hl dX4_unit_133 rfl rfl ?_
    refine g_iconst K dX4_unit_134 lc_2 ?_
    refine m_callVV K hl hF ha rfl (fun t h => w_wrong _ _ t h) rfl cp_wrong q1852 rfl rfl rfl rfl rfl dX4_unit_135 (fun σ1 hF ha => ?_)
    exact L138  _ _ ls hF ha (lq_sub hl rfl)
  have L126 : ∀  (σ : MS) (x2 : Int32) (ls : Array Slot), M_unit_L126 G  σ x2 = some r → ag wr_unit σ0 σ → lq ls 3 [(0, some (.ref qm)), (2, some (.int x2))] → ZM p l e 3 s m args below meth c D cz qm wr_unit σ0 none r σ (F0 m 126 ls []) := by
    intro  σ x2 ls hF ha hl
    unfold M_unit_L126 at hF
    refine g_aload_n (i := 0) K hl dX4_unit_126 rfl rfl ?_
    refine m_callVP K hl hF (fun t h => w_isFull _  t h) rfl cp_isFull q1891 rfl rfl rfl rfl rfl dX4_unit_127 (fun t1 hF => ?_)
    refine g_if_eq (tgt := 138) K hF dX4_unit_130 (by decide) (fun hF => ?_) (fun hF => ?_)
    · exact L138  _ _ ls hF ha (lq_sub hl rfl)
    · exact L133  _ _ ls hF ha (lq_sub hl rfl)
  have L101 : ∀  (σ : MS) (ls : Array Slot), M_unit_L101 G  σ = some r → ag wr_unit σ0 σ → lq ls 3 [(0, some (.ref qm))] → ZM p l e 3 s m args below meth c D cz qm wr_unit σ0 none r σ (F0 m 101 ls []) := by
    intro  σ ls hF ha hl
    unfold M_unit_L101 at hF
    refine g_aload_n (i := 0) K hl dX4_unit_101 rfl rfl ?_
    refine mget_2 K dX4_unit_102 ?_
    refine g_if_le (tgt := 109) K hF dX4_unit_105 (by decide) (fun hF => ?_) (fun hF => ?_)
    · refine g_aload_n (i := 0) K hl dX4_unit_109 rfl rfl ?_
      refine m_callVP K hl hF (fun t h => w_asked _  t h) rfl cp_asked q1899 rfl rfl rfl rfl rfl dX4_unit_110 (fun t1 hF => ?_)
      refine g_istore_n (i := 2) K hl dX4_unit_113 rfl rfl rfl (fun ls hl => ?_)
      refine g_aload_n (i := 0) K hl dX4_unit_114 rfl rfl ?_
      refine mget_6 K dX4_unit_115 ?_
      refine g_iconst K dX4_unit_118 lc_2 ?_
      refine g_icmp_eq (tgt := 126) K hF dX4_unit_119 (by decide) (fun hF => ?_) (fun hF => ?_)
      · exact L126  _ _ ls hF ha (lq_sub hl rfl)
      · refine g_iload_n (i := 2) K hl dX4_unit_122 rfl rfl ?_
        refine g_if_lt (tgt := 133) K hF dX4_unit_123 (by decide) (fun hF => ?_) (fun hF => ?_)
        · exact L133  _ _ ls hF ha (lq_sub hl rfl)
        · exact L126  _ _ ls hF ha (lq_sub hl rfl)
    · exact m_vretV K hF ha dX4_unit_108
  have L83 : ∀ (k2 : MS → Int32 → Option MS) (hk2 : (∀ (σ : MS) (x1 : Int32) (ls : Array Slot), k2 σ x1 = some r → ag wr_unit σ0 σ → lq ls 3 [(0, some (.ref qm)), (1, some (.int x1))] → ZM p l e 3 s m args below meth c D cz qm wr_unit σ0 none r σ (F0 m 2 ls []))) (σ : MS) (x1 : Int32) (ls : Array Slot), M_unit_L83 G k2 σ x1 = some r → ag wr_unit σ0 σ → lq ls 3 [(0, some (.ref qm)), (1, some (.int x1))] → ZM p l e 3 s m args below meth c D cz qm wr_unit σ0 none r σ (F0 m 83 ls []) := by
    intro k2 hk2 σ x1 ls hF ha hl
    unfold M_unit_L83 at hF
    refine g_aload_n (i := 0) K hl dX4_unit_83 rfl rfl ?_
    refine m_callVV K hl hF ha rfl (fun t h => w_countUnit _  t h) rfl cp_countUnit q1895 rfl rfl rfl rfl rfl dX4_unit_84 (fun σ1 hF ha => ?_)
    refine g_aload_n (i := 0) K hl dX4_unit_87 rfl rfl ?_
    refine g_bipush K dX4_unit_88 lb_20 ?_
    refine m_callVV K hl hF ha rfl (fun t h => w_openUp G _ _ t h) rfl cp_openUp q1887 rfl rfl rfl rfl rfl dX4_unit_90 (fun σ2 hF ha => ?_)
    refine g_goto (tgt := 2) K dX4_unit_93 (by decide) ?_
    exact hk2 _ _ ls hF ha (lq_sub hl rfl)
  have L78 : ∀ (k2 : MS → Int32 → Option MS) (hk2 : (∀ (σ : MS) (x1 : Int32) (ls : Array Slot), k2 σ x1 = some r → ag wr_unit σ0 σ → lq ls 3 [(0, some (.ref qm)), (1, some (.int x1))] → ZM p l e 3 s m args below meth c D cz qm wr_unit σ0 none r σ (F0 m 2 ls []))) (σ : MS) (x1 : Int32) (ls : Array Slot), M_unit_L78 G k2 σ x1 = some r → ag wr_unit σ0 σ → lq ls 3 [(0, some (.ref qm)), (1, some (.int x1))] → ZM p l e 3 s m args below meth c D cz qm wr_unit σ0 none r σ (F0 m 78 ls []) := by
    intro k2 hk2 σ x1 ls hF ha hl
    unfold M_unit_L78 at hF
    refine g_aload_n (i := 0) K hl dX4_unit_78 rfl rfl ?_
    refine g_iconst K dX4_unit_79 lc_2 ?_
    refine m_callVV K hl hF ha rfl (fun t h => w_wrong _ _ t h) rfl cp_wrong q1852 rfl rfl rfl rfl rfl dX4_unit_80 (fun σ1 hF ha => ?_)
    exact L83 k2 hk2 _ _ ls hF ha (lq_sub hl rfl)
  have L53 : ∀ (k2 : MS → Int32 → Option MS) (hk2 : (∀ (σ : MS) (x1 : Int32) (ls : Array Slot), k2 σ x1 = some r → ag wr_unit σ0 σ → lq ls 3 [(0, some (.ref qm)), (1, some (.int x1))] → ZM p l e 3 s m args below meth c D cz qm wr_unit σ0 none r σ (F0 m 2 ls []))) (σ : MS) (x1 : Int32) (ls : Array Slot), M_unit_L53 G k2 σ x1 = some r → ag wr_unit σ0 σ → lq ls 3 [(0, some (.ref qm)), (1, some (.int x1))] → ZM p l e 3 s m args below meth c D cz qm wr_unit σ0 none r σ (F0 m 53 ls []) := by
    intro k2 hk2 σ x1 ls hF ha hl
    unfold M_unit_L53 at hF
    refine g_aload_n (i := 0) K hl dX4_unit_53 rfl rfl ?_
    refine mget_6 K dX4_unit_54 ?_
    refine g_bipush K dX4_unit_57 lb_40 ?_
    refine g_icmp_ne (tgt := 96) K hF dX4_unit_59 (by decide) (fun hF => ?_) (fun hF => ?_)
    · refine g_iconst K dX4_unit_96 lc_0 ?_
      refine g_istore_n (i := 1) K hl dX4_unit_97 rfl rfl rfl (fun ls hl => ?_)
      refine g_goto (tgt := 2) K dX4_unit_98 (by decide) ?_
      exact hk2 _ _ ls hF ha (lq_sub hl rfl)
    · refine g_aload_n (i := 0) K hl dX4_unit_62 rfl rfl ?_
      refine m_callVP K hl hF (fun t h => w_isFull _  t h) rfl cp_isFull q1891 rfl rfl rfl rfl rfl dX4_unit_63 (fun t1 hF => ?_)
      refine g_if_ne (tgt := 78) K hF dX4_unit_66 (by decide) (fun hF => ?_) (fun hF => ?_)
      · exact L78 k2 hk2 _ _ ls hF ha (lq_sub hl rfl)
      · refine g_aload_n (i := 0) K hl dX4_unit_69 rfl rfl ?_
        refine mget_23 K dX4_unit_70 ?_
        refine g_bipush K dX4_unit_73 lb_6 ?_
        refine g_icmp_le (tgt := 83) K hF dX4_unit_75 (by decide) (fun hF => ?_) (fun hF => ?_)
        · exact L83 k2 hk2 _ _ ls hF ha (lq_sub hl rfl)
        · exact L78 k2 hk2 _ _ ls hF ha (lq_sub hl rfl)
  have L44 : ∀ (k2 : MS → Int32 → Option MS) (hk2 : (∀ (σ : MS) (x1 : Int32) (ls : Array Slot), k2 σ x1 = some r → ag wr_unit σ0 σ → lq ls 3 [(0, some (.ref qm)), (1, some (.int x1))] → ZM p l e 3 s m args below meth c D cz qm wr_unit σ0 none r σ (F0 m 2 ls []))) (σ : MS) (x1 : Int32) (ls : Array Slot), M_unit_L44 G k2 σ x1 = some r → ag wr_unit σ0 σ → lq ls 3 [(0, some (.ref qm)), (1, some (.int x1))] → ZM p l e 3 s m args below meth c D cz qm wr_unit σ0 none r σ (F0 m 44 ls []) := by
    intro k2 hk2 σ x1 ls hF ha hl
    unfold M_unit_L44 at hF
    refine g_aload_n (i := 0) K hl dX4_unit_44 rfl rfl ?_
    refine g_bipush K dX4_unit_45 lb_21 ?_
    refine m_callVV K hl hF ha rfl (fun t h => w_openUp G _ _ t h) rfl cp_openUp q1887 rfl rfl rfl rfl rfl dX4_unit_47 (fun σ1 hF ha => ?_)
    refine g_goto (tgt := 2) K dX4_unit_50 (by decide) ?_
    exact hk2 _ _ ls hF ha (lq_sub hl rfl)
  have B2 : ∀ (k2 : MS → Int32 → Option MS) (hk2 : (∀ (σ : MS) (x1 : Int32) (ls : Array Slot), k2 σ x1 = some r → ag wr_unit σ0 σ → lq ls 3 [(0, some (.ref qm)), (1, some (.int x1))] → ZM p l e 3 s m args below meth c D cz qm wr_unit σ0 none r σ (F0 m 2 ls []))) (σ : MS) (x1 : Int32) (ls : Array Slot), M_unit_B2 G k2 σ x1 = some r → ag wr_unit σ0 σ → lq ls 3 [(0, some (.ref qm)), (1, some (.int x1))] → ZM p l e 3 s m args below meth c D cz qm wr_unit σ0 none r σ (F0 m 2 ls []) := by
    intro k2 hk2 σ x1 ls hF ha hl
    unfold M_unit_B2 at hF
    refine g_iload_n (i := 1) K hl dX4_unit_2 rfl rfl ?_
    refine g_if_eq (tgt := 101) K hF dX4_unit_3 (by decide) (fun hF => ?_) (fun hF => ?_)
    · exact L101  _ ls hF ha (lq_sub hl rfl)
    · refine g_aload_n (i := 0) K hl dX4_unit_6 rfl rfl ?_
      refine mget_2 K dX4_unit_7 ?_
      refine g_if_ne (tgt := 101) K hF dX4_unit_10 (by decide) (fun hF => ?_) (fun hF => ?_)
      · exact L101  _ ls hF ha (lq_sub hl rfl)
      · refine g_aload_n (i := 0) K hl dX4_unit_13 rfl rfl ?_
        refine g_ldc2 K dX4_unit_14 q1879 ?_
        refine m_callVP K hl hF (fun t h => w_isWord _ _ t h) rfl cp_isWord q1836 rfl rfl rfl rfl rfl dX4_unit_17 (fun t1 hF => ?_)
        refine g_if_eq (tgt := 53) K hF dX4_unit_20 (by decide) (fun hF => ?_) (fun hF => ?_)
        · exact L53 k2 hk2 _ _ ls hF ha (lq_sub hl rfl)
        · refine g_aload_n (i := 0) K hl dX4_unit_23 rfl rfl ?_
          refine m_callVP K hl hF (fun t h => w_mayNot _  t h) rfl cp_mayNot q1880 rfl rfl rfl rfl rfl dX4_unit_24 (fun t2 hF => ?_)
          refine g_if_eq (tgt := 53) K hF dX4_unit_27 (by decide) (fun hF => ?_) (fun hF => ?_)
          · exact L53 k2 hk2 _ _ ls hF ha (lq_sub hl rfl)
          · refine g_aload_n (i := 0) K hl dX4_unit_30 rfl rfl ?_
            refine mget_23 K dX4_unit_31 ?_
            refine g_bipush K dX4_unit_34 lb_6 ?_
            refine g_icmp_le (tgt := 44) K hF dX4_unit_36 (by decide) (fun hF => ?_) (fun hF => ?_)
            · exact L44 k2 hk2 _ _ ls hF ha (lq_sub hl rfl)
            · refine g_aload_n (i := 0) K hl dX4_unit_39 rfl rfl ?_
              refine g_iconst K dX4_unit_40 lc_2 ?_
              refine m_callVV K hl hF ha rfl (fun t h => w_wrong _ _ t h) rfl cp_wrong q1852 rfl rfl rfl rfl rfl dX4_unit_41 (fun σ3 hF ha => ?_)
              exact L44 k2 hk2 _ _ ls hF ha (lq_sub hl rfl)
  have L2 : ∀  (n : Nat) (σ : MS) (x1 : Int32) (ls : Array Slot), M_unit_L2 G  n σ x1 = some r → ag wr_unit σ0 σ → lq ls 3 [(0, some (.ref qm)), (1, some (.int x1))] → ZM p l e 3 s m args below meth c D cz qm wr_unit σ0 none r σ (F0 m 2 ls []) := by
    intro  n
    induction n with
    | zero => intro σ x1 ls hF; exact absurd hF (fun h => by cases h)
    | succ n ih => intro σ x1 ls hF ha hl; exact B2  _ ih _ _ ls hF ha hl
  have ha : ag wr_unit σ0 σ0 := ag.rf
  unfold M_unit at hF
  refine g_iconst K dX4_unit_0 lc_1 ?_
  refine g_istore_n (i := 1) K hl dX4_unit_1 rfl rfl rfl (fun ls hl => ?_)
  exact L2  G _ _ ls hF ha (lq_sub hl rfl)

theorem cp_sign : cpV yX4_sign cX4_sign 1 (some .int) 0 := ⟨q1916, qs80, q152, q1917, by decide +kernel⟩
set_option maxHeartbeats 4000000 in
set_option maxRecDepth 100000 in
theorem w_sign {l : Launch} {D : va_G} {cz : Nat → ClassId} {qm : Nat} (σ0 : MS)  (r : Int32) (hF : M_sign σ0 = some r) : mMet l D cz qm yX4_sign cX4_sign 1 (some .int) 1 wr_sign [.ref qm] σ0 (some (.int r)) σ0 := by
  refine m_of (by decide) rfl ?_
  intro p e s m args below meth c ls K hl
  unfold M_sign at hF
  refine g_aload_n (i := 0) K hl dX4_sign_0 rfl rfl ?_
  refine g_ldc2 K dX4_sign_1 q1918 ?_
  refine m_callVP K hl hF (fun t h => w_isWord _ _ t h) rfl cp_isWord q1836 rfl rfl rfl rfl rfl dX4_sign_4 (fun t1 hF => ?_)
  refine g_if_eq (tgt := 13) K hF dX4_sign_7 (by decide) (fun hF => ?_) (fun hF => ?_)
  · refine g_aload_n (i := 0) K hl dX4_sign_13 rfl rfl ?_
    refine g_ldc2 K dX4_sign_14 q1919 ?_
    refine m_callVP K hl hF (fun t h => w_isWord _ _ t h) rfl cp_isWord q1836 rfl rfl rfl rfl rfl dX4_sign_17 (fun t2 hF => ?_)
    refine g_if_eq (tgt := 26) K hF dX4_sign_20 (by decide) (fun hF => ?_) (fun hF => ?_)
    · refine g_aload_n (i := 0) K hl dX4_sign_26 rfl rfl ?_
      refine mget_6 K dX4_sign_27 ?_
      refine g_bipush K dX4_sign_30 lb_60 ?_
      refine g_icmp_eq (tgt := 98) K hF dX4_sign_32 (by decide) (fun hF => ?_) (fun hF => ?_)
      · refine g_aload_n (i := 0) K hl dX4_sign_98 rfl rfl ?_
        refine mget_6 K dX4_sign_99 ?_
        refine g_goto (tgt := 106) K dX4_sign_102 (by decide) ?_
        exact m_iretP K hF ag.rf dX4_sign_106
      · refine g_aload_n (i := 0) K hl dX4_sign_35 rfl rfl ?_
        refine mget_6 K dX4_sign_36 ?_
        refine g_bipush K dX4_sign_39 lb_62 ?_
        refine g_icmp_eq (tgt := 98) K hF dX4_sign_41 (by decide) (fun hF => ?_) (fun hF => ?_)
        · refine g_aload_n (i := 0) K hl dX4_sign_98 rfl rfl ?_
          refine mget_6 K dX4_sign_99 ?_
          refine g_goto (tgt := 106) K dX4_sign_102 (by decide) ?_
          exact m_iretP K hF ag.rf dX4_sign_106
        · refine g_aload_n (i := 0) K hl dX4_sign_44 rfl rfl ?_
          refine mget_6 K dX4_sign_45 ?_
          refine g_bipush K dX4_sign_48 lb_61 ?_
          refine g_icmp_eq (tgt := 98) K hF dX4_sign_50 (by decide) (fun hF => ?_) (fun hF => ?_)
          · refine g_aload_n (i := 0) K hl dX4_sign_98 rfl rfl ?_
            refine mget_6 K dX4_sign_99 ?_
            refine g_goto (tgt := 106) K dX4_sign_102 (by decide) ?_
            exact m_iretP K hF ag.rf dX4_sign_106
          · refine g_aload_n (i := 0) K hl dX4_sign_53 rfl rfl ?_
            refine mget_6 K dX4_sign_54 ?_
            refine g_bipush K dX4_sign_57 lb_43 ?_
            refine g_icmp_eq (tgt := 98) K hF dX4_sign_59 (by decide) (fun hF => ?_) (fun hF => ?_)
            · refine g_aload_n (i := 0) K hl dX4_sign_98 rfl rfl ?_
              refine mget_6 K dX4_sign_99 ?_
              refine g_goto (tgt := 106) K dX4_sign_102 (by decide) ?_
              exact m_iretP K hF ag.rf dX4_sign_106
            · refine g_aload_n (i := 0) K hl dX4_sign_62 rfl rfl ?_
              refine mget_6 K dX4_sign_63 ?_
              refine g_bipush K dX4_sign_66 lb_45 ?_
              refine g_icmp_eq (tgt := 98) K hF dX4_sign_68 (by decide) (fun hF => ?_) (fun hF => ?_)
              · refine g_aload_n (i := 0) K hl dX4_sign_98 rfl rfl ?_
                refine mget_6 K dX4_sign_99 ?_
                refine g_goto (tgt := 106) K dX4_sign_102 (by decide) ?_
                exact m_iretP K hF ag.rf dX4_sign_106
              · refine g_aload_n (i := 0) K hl dX4_sign_71 rfl rfl ?_
                refine mget_6 K dX4_sign_72 ?_
                refine g_bipush K dX4_sign_75 lb_42 ?_
                refine g_icmp_eq (tgt := 98) K hF dX4_sign_77 (by decide) (fun hF => ?_) (fun hF => ?_)
                · refine g_aload_n (i := 0) K hl dX4_sign_98 rfl rfl ?_
                  refine mget_6 K dX4_sign_99 ?_
                  refine g_goto (tgt := 106) K dX4_sign_102 (by decide) ?_
                  exact m_iretP K hF ag.rf dX4_sign_106
                · refine g_aload_n (i := 0) K hl dX4_sign_80 rfl rfl ?_
                  refine mget_6 K dX4_sign_81 ?_
                  refine g_bipush K dX4_sign_84 lb_47 ?_
                  refine g_icmp_eq (tgt := 98) K hF dX4_sign_86 (by decide) (fun hF => ?_) (fun hF => ?_)
                  · refine g_aload_n (i := 0) K hl dX4_sign_98 rfl rfl ?_
                    refine mget_6 K dX4_sign_99 ?_
                    refine g_goto (tgt := 106) K dX4_sign_102 (by decide) ?_
                    exact m_iretP K hF ag.rf dX4_sign_106
                  · refine g_aload_n (i := 0) K hl dX4_sign_89 rfl rfl ?_
                    refine mget_6 K dX4_sign_90 ?_
                    refine g_bipush K dX4_sign_93 lb_37 ?_
                    refine g_icmp_ne (tgt := 105) K hF dX4_sign_95 (by decide) (fun hF => ?_) (fun hF => ?_)
                    · refine g_iconst K dX4_sign_105 lc_0 ?_
                      exact m_iretP K hF ag.rf dX4_sign_106
                    · refine g_aload_n (i := 0) K hl dX4_sign_98 rfl rfl ?_
                      refine mget_6 K dX4_sign_99 ?_
                      refine g_goto (tgt := 106) K dX4_sign_102 (by decide) ?_
                      exact m_iretP K hF ag.rf dX4_sign_106
    · refine g_bipush K dX4_sign_23 lb_124 ?_
      exact m_iretP K hF ag.rf dX4_sign_25
  · refine g_bipush K dX4_sign_10 lb_38 ?_
    exact m_iretP K hF ag.rf dX4_sign_12

theorem cp_hasBracket : cpV yX4_hasBracket cX4_hasBracket 3 (some .boolean) 0 := ⟨q1922, qs81, q152, q1923, by decide +kernel⟩
set_option maxHeartbeats 4000000 in
set_option maxRecDepth 100000 in
theorem w_hasBracket {l : Launch} {D : va_G} {cz : Nat → ClassId} {qm : Nat} (G : Nat) (σ0 : MS)  (r : Int32) (hF : M_hasBracket G σ0 = some r) : mMet l D cz qm yX4_hasBracket cX4_hasBracket 3 (some .boolean) 0 wr_hasBracket [.ref qm] σ0 (some (.int r)) σ0 := by
  refine m_of (by decide) rfl ?_
  intro p e s m args below meth c ls K hl
  have B4 : ∀ (k4 : Int32 → Int32 → Option Int32) (hk4 : (∀ (x1 : Int32) (x2 : Int32) (ls : Array Slot), k4 x1 x2 = some r → lq ls 3 [(0, some (.ref qm)), (1, some (.int x1)), (2, some (.int x2))] → ZM p l e 0 s m args below meth c D cz qm wr_hasBracket σ0 (some (.int r)) σ0 σ0 (F0 m 4 ls []))) (x1 : Int32) (x2 : Int32) (ls : Array Slot), M_hasBracket_B4 G σ0 k4 x1 x2 = some r → lq ls 3 [(0, some (.ref qm)), (1, some (.int x1)), (2, some (.int x2))] → ZM p l e 0 s m args below meth c D cz qm wr_hasBracket σ0 (some (.int r)) σ0 σ0 (F0 m 4 ls []) := by
    intro k4 hk4 x1 x2 ls hF hl
    unfold M_hasBracket_B4 at hF
    refine g_iload_n (i := 2) K hl dX4_hasBracket_4 rfl rfl ?_
    refine g_aload_n (i := 0) K hl dX4_hasBracket_5 rfl rfl ?_
    refine mget_19 K dX4_hasBracket_6 ?_
    refine g_icmp_ge (tgt := 39) K hF dX4_hasBracket_9 (by decide) (fun hF => ?_) (fun hF => ?_)
    · refine g_iload_n (i := 1) K hl dX4_hasBracket_39 rfl rfl ?_
      obtain ⟨hz, hF⟩ := bzI_i hF
      exact m_zretP K hF hz ag.rf dX4_hasBracket_40
    · refine g_iload_n (i := 1) K hl dX4_hasBracket_12 rfl rfl ?_
      refine g_if_ne (tgt := 27) K hF dX4_hasBracket_13 (by decide) (fun hF => ?_) (fun hF => ?_)
      · refine g_iconst K dX4_hasBracket_27 lc_1 ?_
        refine g_goto (tgt := 32) K dX4_hasBracket_28 (by decide) ?_
        refine g_istore_n (i := 1) K hl dX4_hasBracket_32 rfl rfl rfl (fun ls hl => ?_)
        refine g_iinc (i := 2) K hl dX4_hasBracket_33 rfl lc_1 rfl rfl (fun ls hl => ?_)
        refine g_goto (tgt := 4) K dX4_hasBracket_36 (by decide) ?_
        exact hk4 _ _ ls hF (lq_sub hl rfl)
      · refine g_aload_n (i := 0) K hl dX4_hasBracket_16 rfl rfl ?_
        refine mget_16 K dX4_hasBracket_17 ?_
        refine g_iload_n (i := 2) K hl dX4_hasBracket_20 rfl rfl ?_
        refine mld_16 K hF dX4_hasBracket_21 (fun t1 hF => ?_)
        refine g_bipush K dX4_hasBracket_22 lb_20 ?_
        refine g_icmp_ne (tgt := 31) K hF dX4_hasBracket_24 (by decide) (fun hF => ?_) (fun hF => ?_)
        · refine g_iconst K dX4_hasBracket_31 lc_0 ?_
          refine g_istore_n (i := 1) K hl dX4_hasBracket_32 rfl rfl rfl (fun ls hl => ?_)
          refine g_iinc (i := 2) K hl dX4_hasBracket_33 rfl lc_1 rfl rfl (fun ls hl => ?_)
          refine g_goto (tgt := 4) K dX4_hasBracket_36 (by decide) ?_
          exact hk4 _ _ ls hF (lq_sub hl rfl)
        · refine g_iconst K dX4_hasBracket_27 lc_1 ?_
          refine g_goto (tgt := 32) K dX4_hasBracket_28 (by decide) ?_
          refine g_istore_n (i := 1) K hl dX4_hasBracket_32 rfl rfl rfl (fun ls hl => ?_)
          refine g_iinc (i := 2) K hl dX4_hasBracket_33 rfl lc_1 rfl rfl (fun ls hl => ?_)
          refine g_goto (tgt := 4) K dX4_hasBracket_36 (by decide) ?_
          exact hk4 _ _ ls hF (lq_sub hl rfl)
  have L4 : ∀  (n : Nat) (x1 : Int32) (x2 : Int32) (ls : Array Slot), M_hasBracket_L4 G σ0  n x1 x2 = some r → lq ls 3 [(0, some (.ref qm)), (1, some (.int x1)), (2, some (.int x2))] → ZM p l e 0 s m args below meth c D cz qm wr_hasBracket σ0 (some (.int r)) σ0 σ0 (F0 m 4 ls []) := by
    intro  n
    induction n with
    | zero => intro x1 x2 ls hF; exact absurd hF (fun h => by cases h)
    | succ n ih => intro x1 x2 ls hF hl; exact B4  _ ih _ _ ls hF hl
  unfold M_hasBracket at hF
  refine g_iconst K dX4_hasBracket_0 lc_0 ?_
  refine g_istore_n (i := 1) K hl dX4_hasBracket_1 rfl rfl rfl (fun ls hl => ?_)
  refine g_iconst K dX4_hasBracket_2 lc_0 ?_
  refine g_istore_n (i := 2) K hl dX4_hasBracket_3 rfl rfl rfl (fun ls hl => ?_)
  exact L4  G _ _ ls hF (lq_sub hl rfl)

theorem cp_formula : cpV yX4_formula cX4_formula 4 none 1 := ⟨q1873, qs72, q152, q1874, by decide +kernel⟩
set_option maxHeartbeats 4000000 in
set_option maxRecDepth 100000 in
theorem w_formula {l : Launch} {D : va_G} {cz : Nat → ClassId} {qm : Nat} (G : Nat) (σ0 : MS) (a0 : Int32) (r : MS) (hF : M_formula G σ0 a0 = some r) : mMet l D cz qm yX4_formula cX4_formula 4 none 4 wr_formula [.ref qm, .int a0] σ0 none r := by
  refine m_of (by decide) rfl ?_
  intro p e s m args below meth c ls K hl
  have L182 : ∀  (σ : MS) (ls : Array Slot), M_formula_L182 G  σ = some r → ag wr_formula σ0 σ → lq ls 4 [(0, some (.ref qm))] → ZM p l e 4 s m args below meth c D cz qm wr_formula σ0 none r σ (F0 m 182 ls []) := by
    intro  σ ls hF ha hl
    unfold M_formula_L182 at hF
    refine g_aload_n (i := 0) K hl dX4_formula_182 rfl rfl ?_
    refine mget_2 K dX4_formula_183 ?_
    refine g_if_ne (tgt := 194) K hF dX4_formula_186 (by decide) (fun hF => ?_) (fun hF => ?_)
    · exact m_vretV K hF ha dX4_formula_194
    · refine g_aload_n (i := 0) K hl dX4_formula_189 rfl rfl ?_
      refine g_iconst K dX4_formula_190 lc_0 ?_
      refine m_callVV K hl hF ha rfl (fun t h => w_close G _ _ t h) rfl cp_close q1924 rfl rfl rfl rfl rfl dX4_formula_191 (fun σ1 hF ha => ?_)
      exact m_vretV K hF ha dX4_formula_194
  have L163 : ∀  (σ : MS) (ls : Array Slot), M_formula_L163 G  σ = some r → ag wr_formula σ0 σ → lq ls 4 [(0, some (.ref qm))] → ZM p l e 4 s m args below meth c D cz qm wr_formula σ0 none r σ (F0 m 163 ls []) := by
    intro  σ ls hF ha hl
    unfold M_formula_L163 at hF
    refine g_aload_n (i := 0) K hl dX4_formula_163 rfl rfl ?_
    refine mget_2 K dX4_formula_164 ?_
    refine g_if_ne (tgt := 182) K hF dX4_formula_167 (by decide) (fun hF => ?_) (fun hF => ?_)
    · exact L182  _ ls hF ha (lq_sub hl rfl)
    · refine g_aload_n (i := 0) K hl dX4_formula_170 rfl rfl ?_
      refine m_callVP K hl hF (fun t h => w_hasBracket G _  t h) rfl cp_hasBracket q1920 rfl rfl rfl rfl rfl dX4_formula_171 (fun t1 hF => ?_)
      refine g_if_eq (tgt := 182) K hF dX4_formula_174 (by decide) (fun hF => ?_) (fun hF => ?_)
      · exact L182  _ ls hF ha (lq_sub hl rfl)
      · refine g_aload_n (i := 0) K hl dX4_formula_177 rfl rfl ?_
        refine g_iconst K dX4_formula_178 lc_2 ?_
        refine m_callVV K hl hF ha rfl (fun t h => w_wrong _ _ t h) rfl cp_wrong q1852 rfl rfl rfl rfl rfl dX4_formula_179 (fun σ2 hF ha => ?_)
        exact L182  _ ls hF ha (lq_sub hl rfl)
  have L119 : ∀ (k36 : MS → Int32 → Option MS) (hk36 : (∀ (σ : MS) (x2 : Int32) (ls : Array Slot), k36 σ x2 = some r → ag wr_formula σ0 σ → lq ls 4 [(0, some (.ref qm)), (2, some (.int x2))] → ZM p l e 4 s m args below meth c D cz qm wr_formula σ0 none r σ (F0 m 36 ls []))) (σ : MS) (x2 : Int32) (x3 : Int32) (ls : Array Slot), M_formula_L119 G k36 σ x2 x3 = some r → ag wr_formula σ0 σ → lq ls 4 [(0, some (.ref qm)), (2, some (.int x2)), (3, some (.int x3))] → ZM p l e 4 s m args below meth c D cz qm wr_formula σ0 none r σ (F0 m 119 ls []) := by
    intro k36 hk36 σ x2 x3 ls hF ha hl
    unfold M_formula_L119 at hF
    refine g_aload_n (i := 0) K hl dX4_formula_119 rfl rfl ?_
    refine g_iload_n (i := 3) K hl dX4_formula_120 rfl rfl ?_
    refine m_callSP K hl hF (fun t h => w_tight _ _ t h) cp_tight q1884 rfl rfl rfl rfl rfl dX4_formula_121 (fun t1 hF => ?_)
    refine m_callVV K hl hF ha rfl (fun t h => w_close G _ _ t h) rfl cp_close q1924 rfl rfl rfl rfl rfl dX4_formula_124 (fun σ2 hF ha => ?_)
    refine g_aload_n (i := 0) K hl dX4_formula_127 rfl rfl ?_
    refine mget_16 K dX4_formula_128 ?_
    refine g_aload_n (i := 0) K hl dX4_formula_131 rfl rfl ?_
    refine mget_19 K dX4_formula_132 ?_
    refine g_iload_n (i := 3) K hl dX4_formula_135 rfl rfl ?_
    refine mst_16 K hF ha rfl dX4_formula_136 (fun σ3 hF ha => ?_)
    refine g_aload_n (i := 0) K hl dX4_formula_137 rfl rfl ?_
    refine g_dup K dX4_formula_138 rfl ?_
    refine mget_19 K dX4_formula_139 ?_
    refine g_iconst K dX4_formula_142 lc_1 ?_
    refine g_iadd K dX4_formula_143 ?_
    refine mput_19 K hF ha rfl dX4_formula_144 (fun σ4 hF ha => ?_)
    refine g_aload_n (i := 0) K hl dX4_formula_147 rfl rfl ?_
    refine m_callVV K hl hF ha rfl (fun t h => w_token G _  t h) rfl cp_token q1814 rfl rfl rfl rfl rfl dX4_formula_148 (fun σ5 hF ha => ?_)
    refine g_aload_n (i := 0) K hl dX4_formula_151 rfl rfl ?_
    refine m_callVV K hl hF ha rfl (fun t h => w_unit G _  t h) rfl cp_unit q1875 rfl rfl rfl rfl rfl dX4_formula_152 (fun σ6 hF ha => ?_)
    refine g_goto (tgt := 160) K dX4_formula_155 (by decide) ?_
    refine g_goto (tgt := 36) K dX4_formula_160 (by decide) ?_
    exact hk36 _ _ ls hF ha (lq_sub hl rfl)
  have L100 : ∀ (k36 : MS → Int32 → Option MS) (hk36 : (∀ (σ : MS) (x2 : Int32) (ls : Array Slot), k36 σ x2 = some r → ag wr_formula σ0 σ → lq ls 4 [(0, some (.ref qm)), (2, some (.int x2))] → ZM p l e 4 s m args below meth c D cz qm wr_formula σ0 none r σ (F0 m 36 ls []))) (σ : MS) (x2 : Int32) (x3 : Int32) (ls : Array Slot), M_formula_L100 G k36 σ x2 x3 = some r → ag wr_formula σ0 σ → lq ls 4 [(0, some (.ref qm)), (2, some (.int x2)), (3, some (.int x3))] → ZM p l e 4 s m args below meth c D cz qm wr_formula σ0 none r σ (F0 m 100 ls []) := by
    intro k36 hk36 σ x2 x3 ls hF ha hl
    unfold M_formula_L100 at hF
    refine g_iload_n (i := 3) K hl dX4_formula_100 rfl rfl ?_
    refine g_if_eq (tgt := 158) K hF dX4_formula_101 (by decide) (fun hF => ?_) (fun hF => ?_)
    · refine g_iconst K dX4_formula_158 lc_0 ?_
      refine g_istore_n (i := 2) K hl dX4_formula_159 rfl rfl rfl (fun ls hl => ?_)
      refine g_goto (tgt := 36) K dX4_formula_160 (by decide) ?_
      exact hk36 _ _ ls hF ha (lq_sub hl rfl)
    · refine g_iload_n (i := 3) K hl dX4_formula_104 rfl rfl ?_
      refine m_callSP K hl hF (fun t h => w_tight _ _ t h) cp_tight q1884 rfl rfl rfl rfl rfl dX4_formula_105 (fun t1 hF => ?_)
      refine g_iconst K dX4_formula_108 lc_4 ?_
      refine g_icmp_ne (tgt := 119) K hF dX4_formula_109 (by decide) (fun hF => ?_) (fun hF => ?_)
      · exact L119 k36 hk36 _ _ _ ls hF ha (lq_sub hl rfl)
      · refine g_aload_n (i := 0) K hl dX4_formula_112 rfl rfl ?_
        refine m_callVP K hl hF (fun t h => w_hasRelation G _  t h) rfl cp_hasRelation q1928 rfl rfl rfl rfl rfl dX4_formula_113 (fun t2 hF => ?_)
        refine g_if_ne (tgt := 158) K hF dX4_formula_116 (by decide) (fun hF => ?_) (fun hF => ?_)
        · refine g_iconst K dX4_formula_158 lc_0 ?_
          refine g_istore_n (i := 2) K hl dX4_formula_159 rfl rfl rfl (fun ls hl => ?_)
          refine g_goto (tgt := 36) K dX4_formula_160 (by decide) ?_
          exact hk36 _ _ ls hF ha (lq_sub hl rfl)
        · exact L119 k36 hk36 _ _ _ ls hF ha (lq_sub hl rfl)
  have B36 : ∀ (k36 : MS → Int32 → Option MS) (hk36 : (∀ (σ : MS) (x2 : Int32) (ls : Array Slot), k36 σ x2 = some r → ag wr_formula σ0 σ → lq ls 4 [(0, some (.ref qm)), (2, some (.int x2))] → ZM p l e 4 s m args below meth c D cz qm wr_formula σ0 none r σ (F0 m 36 ls []))) (σ : MS) (x2 : Int32) (ls : Array Slot), M_formula_B36 G k36 σ x2 = some r → ag wr_formula σ0 σ → lq ls 4 [(0, some (.ref qm)), (2, some (.int x2))] → ZM p l e 4 s m args below meth c D cz qm wr_formula σ0 none r σ (F0 m 36 ls []) := by
    intro k36 hk36 σ x2 ls hF ha hl
    unfold M_formula_B36 at hF
    refine g_iload_n (i := 2) K hl dX4_formula_36 rfl rfl ?_
    refine g_if_eq (tgt := 163) K hF dX4_formula_37 (by decide) (fun hF => ?_) (fun hF => ?_)
    · exact L163  _ ls hF ha (lq_sub hl rfl)
    · refine g_aload_n (i := 0) K hl dX4_formula_40 rfl rfl ?_
      refine mget_2 K dX4_formula_41 ?_
      refine g_if_ne (tgt := 163) K hF dX4_formula_44 (by decide) (fun hF => ?_) (fun hF => ?_)
      · exact L163  _ ls hF ha (lq_sub hl rfl)
      · refine g_aload_n (i := 0) K hl dX4_formula_47 rfl rfl ?_
        refine m_callVP K hl hF (fun t h => w_sign _  t h) rfl cp_sign q1914 rfl rfl rfl rfl rfl dX4_formula_48 (fun t1 hF => ?_)
        refine g_istore_n (i := 3) K hl dX4_formula_51 rfl rfl rfl (fun ls hl => ?_)
        refine g_aload_n (i := 0) K hl dX4_formula_52 rfl rfl ?_
        refine mget_6 K dX4_formula_53 ?_
        refine g_bipush K dX4_formula_56 lb_41 ?_
        refine g_icmp_ne (tgt := 100) K hF dX4_formula_58 (by decide) (fun hF => ?_) (fun hF => ?_)
        · exact L100 k36 hk36 _ _ _ ls hF ha (lq_sub hl rfl)
        · refine g_aload_n (i := 0) K hl dX4_formula_61 rfl rfl ?_
          refine m_callVP K hl hF (fun t h => w_hasBracket G _  t h) rfl cp_hasBracket q1920 rfl rfl rfl rfl rfl dX4_formula_62 (fun t2 hF => ?_)
          refine g_if_eq (tgt := 100) K hF dX4_formula_65 (by decide) (fun hF => ?_) (fun hF => ?_)
          · exact L100 k36 hk36 _ _ _ ls hF ha (lq_sub hl rfl)
          · refine g_aload_n (i := 0) K hl dX4_formula_68 rfl rfl ?_
            refine g_iconst K dX4_formula_69 lc_0 ?_
            refine m_callVV K hl hF ha rfl (fun t h => w_close G _ _ t h) rfl cp_close q1924 rfl rfl rfl rfl rfl dX4_formula_70 (fun σ3 hF ha => ?_)
            refine g_aload_n (i := 0) K hl dX4_formula_73 rfl rfl ?_
            refine g_dup K dX4_formula_74 rfl ?_
            refine mget_19 K dX4_formula_75 ?_
            refine g_iconst K dX4_formula_78 lc_1 ?_
            refine g_isub K dX4_formula_79 ?_
            refine mput_19 K hF ha rfl dX4_formula_80 (fun σ4 hF ha => ?_)
            refine g_aload_n (i := 0) K hl dX4_formula_83 rfl rfl ?_
            refine g_dup K dX4_formula_84 rfl ?_
            refine mget_23 K dX4_formula_85 ?_
            refine g_iconst K dX4_formula_88 lc_1 ?_
            refine g_isub K dX4_formula_89 ?_
            refine mput_23 K hF ha rfl dX4_formula_90 (fun σ5 hF ha => ?_)
            refine g_aload_n (i := 0) K hl dX4_formula_93 rfl rfl ?_
            refine m_callVV K hl hF ha rfl (fun t h => w_token G _  t h) rfl cp_token q1814 rfl rfl rfl rfl rfl dX4_formula_94 (fun σ6 hF ha => ?_)
            refine g_goto (tgt := 160) K dX4_formula_97 (by decide) ?_
            refine g_goto (tgt := 36) K dX4_formula_160 (by decide) ?_
            exact hk36 _ _ ls hF ha (lq_sub hl rfl)
  have L36 : ∀  (n : Nat) (σ : MS) (x2 : Int32) (ls : Array Slot), M_formula_L36 G  n σ x2 = some r → ag wr_formula σ0 σ → lq ls 4 [(0, some (.ref qm)), (2, some (.int x2))] → ZM p l e 4 s m args below meth c D cz qm wr_formula σ0 none r σ (F0 m 36 ls []) := by
    intro  n
    induction n with
    | zero => intro σ x2 ls hF; exact absurd hF (fun h => by cases h)
    | succ n ih => intro σ x2 ls hF ha hl; exact B36  _ ih _ _ ls hF ha hl
  have ha : ag wr_formula σ0 σ0 := ag.rf
  unfold M_formula at hF
  refine g_aload_n (i := 0) K hl dX4_formula_0 rfl rfl ?_
  refine g_iload_n (i := 1) K hl dX4_formula_1 rfl rfl ?_
  refine mput_18 K hF ha rfl dX4_formula_2 (fun σ1 hF ha => ?_)
  refine g_aload_n (i := 0) K hl dX4_formula_5 rfl rfl ?_
  refine mget_12 K dX4_formula_6 ?_
  refine g_aload_n (i := 0) K hl dX4_formula_9 rfl rfl ?_
  refine mget_18 K dX4_formula_10 ?_
  refine g_iconst K dX4_formula_13 lc_0 ?_
  refine mst_12 K hF ha rfl dX4_formula_14 (fun σ2 hF ha => ?_)
  refine g_aload_n (i := 0) K hl dX4_formula_15 rfl rfl ?_
  refine g_iconst K dX4_formula_16 lc_0 ?_
  refine mput_19 K hF ha rfl dX4_formula_17 (fun σ3 hF ha => ?_)
  refine g_aload_n (i := 0) K hl dX4_formula_20 rfl rfl ?_
  refine g_iconst K dX4_formula_21 lc_0 ?_
  refine mput_23 K hF ha rfl dX4_formula_22 (fun σ4 hF ha => ?_)
  refine g_aload_n (i := 0) K hl dX4_formula_25 rfl rfl ?_
  refine g_iconst K dX4_formula_26 lc_0 ?_
  refine mput_22 K hF ha rfl dX4_formula_27 (fun σ5 hF ha => ?_)
  refine g_aload_n (i := 0) K hl dX4_formula_30 rfl rfl ?_
  refine m_callVV K hl hF ha rfl (fun t h => w_unit G _  t h) rfl cp_unit q1875 rfl rfl rfl rfl rfl dX4_formula_31 (fun σ6 hF ha => ?_)
  refine g_iconst K dX4_formula_34 lc_1 ?_
  refine g_istore_n (i := 2) K hl dX4_formula_35 rfl rfl rfl (fun ls hl => ?_)
  exact L36  G _ _ ls hF ha (lq_sub hl rfl)

theorem cp_truth : cpS yX4_truth cX4_truth 1 (some .int) 1 := ⟨q2078, q152, q2079, by decide +kernel⟩
set_option maxHeartbeats 4000000 in
set_option maxRecDepth 100000 in
theorem w_truth {l : Launch} {D : va_G} {cz : Nat → ClassId} {qm : Nat} (σ0 : MS) (a0 : Int32) (r : Int32) (hF : M_truth a0 = some r) : mMet l D cz qm yX4_truth cX4_truth 1 (some .int) 0 wr_truth [.int a0] σ0 (some (.int r)) σ0 := by
  refine m_of (by decide) rfl ?_
  intro p e s m args below meth c ls K hl
  unfold M_truth at hF
  refine g_iload_n (i := 0) K hl dX4_truth_0 rfl rfl ?_
  refine g_if_eq (tgt := 8) K hF dX4_truth_1 (by decide) (fun hF => ?_) (fun hF => ?_)
  · refine g_iconst K dX4_truth_8 lc_0 ?_
    exact m_iretP K hF ag.rf dX4_truth_9
  · refine g_iconst K dX4_truth_4 lc_1 ?_
    refine g_goto (tgt := 9) K dX4_truth_5 (by decide) ?_
    exact m_iretP K hF ag.rf dX4_truth_9

theorem cp_done : cpS yX4_done cX4_done 3 (some .int) 3 := ⟨q2081, q152, q2082, by decide +kernel⟩
set_option maxHeartbeats 4000000 in
set_option maxRecDepth 100000 in
theorem w_done {l : Launch} {D : va_G} {cz : Nat → ClassId} {qm : Nat} (σ0 : MS) (a0 : Int32) (a1 : Int32) (a2 : Int32) (r : Int32) (hF : M_done a0 a1 a2 = some r) : mMet l D cz qm yX4_done cX4_done 3 (some .int) 1 wr_done [.int a0, .int a1, .int a2] σ0 (some (.int r)) σ0 := by
  refine m_of (by decide) rfl ?_
  intro p e s m args below meth c ls K hl
  have L228 : ∀  (s0 : Int32) (ls : Array Slot), M_done_L228   s0 = some r → lq ls 3 [] → ZM p l e 1 s m args below meth c D cz qm wr_done σ0 (some (.int r)) σ0 σ0 (F0 m 228 ls [.int s0]) := by
    intro  s0 ls hF hl
    unfold M_done_L228 at hF
    refine m_callSP K hl hF (fun t h => w_truth _ _ t h) cp_truth q2077 rfl rfl rfl rfl rfl dX4_done_228 (fun t1 hF => ?_)
    exact m_iretP K hF ag.rf dX4_done_231
  have L223 : ∀   (ls : Array Slot), M_done_L223    = some r → lq ls 3 [] → ZM p l e 1 s m args below meth c D cz qm wr_done σ0 (some (.int r)) σ0 σ0 (F0 m 223 ls []) := by
    intro   ls hF hl
    unfold M_done_L223 at hF
    refine g_iconst K dX4_done_223 lc_1 ?_
    refine g_goto (tgt := 228) K dX4_done_224 (by decide) ?_
    exact L228  _ ls hF (lq_sub hl rfl)
  have L211 : ∀  (s0 : Int32) (ls : Array Slot), M_done_L211   s0 = some r → lq ls 3 [] → ZM p l e 1 s m args below meth c D cz qm wr_done σ0 (some (.int r)) σ0 σ0 (F0 m 211 ls [.int s0]) := by
    intro  s0 ls hF hl
    unfold M_done_L211 at hF
    refine m_callSP K hl hF (fun t h => w_truth _ _ t h) cp_truth q2077 rfl rfl rfl rfl rfl dX4_done_211 (fun t1 hF => ?_)
    exact m_iretP K hF ag.rf dX4_done_214
  have L210 : ∀   (ls : Array Slot), M_done_L210    = some r → lq ls 3 [] → ZM p l e 1 s m args below meth c D cz qm wr_done σ0 (some (.int r)) σ0 σ0 (F0 m 210 ls []) := by
    intro   ls hF hl
    unfold M_done_L210 at hF
    refine g_iconst K dX4_done_210 lc_0 ?_
    exact L211  _ ls hF (lq_sub hl rfl)
  have L194 : ∀  (s0 : Int32) (ls : Array Slot), M_done_L194   s0 = some r → lq ls 3 [] → ZM p l e 1 s m args below meth c D cz qm wr_done σ0 (some (.int r)) σ0 σ0 (F0 m 194 ls [.int s0]) := by
    intro  s0 ls hF hl
    unfold M_done_L194 at hF
    refine m_callSP K hl hF (fun t h => w_truth _ _ t h) cp_truth q2077 rfl rfl rfl rfl rfl dX4_done_194 (fun t1 hF => ?_)
    exact m_iretP K hF ag.rf dX4_done_197
  have L180 : ∀  (s0 : Int32) (ls : Array Slot), M_done_L180   s0 = some r → lq ls 3 [] → ZM p l e 1 s m args below meth c D cz qm wr_done σ0 (some (.int r)) σ0 σ0 (F0 m 180 ls [.int s0]) := by
    intro  s0 ls hF hl
    unfold M_done_L180 at hF
    refine m_callSP K hl hF (fun t h => w_truth _ _ t h) cp_truth q2077 rfl rfl rfl rfl rfl dX4_done_180 (fun t1 hF => ?_)
    exact m_iretP K hF ag.rf dX4_done_183
  have L166 : ∀  (s0 : Int32) (ls : Array Slot), M_done_L166   s0 = some r → lq ls 3 [] → ZM p l e 1 s m args below meth c D cz qm wr_done σ0 (some (.int r)) σ0 σ0 (F0 m 166 ls [.int s0]) := by
    intro  s0 ls hF hl
    unfold M_done_L166 at hF
    refine m_callSP K hl hF (fun t h => w_truth _ _ t h) cp_truth q2077 rfl rfl rfl rfl rfl dX4_done_166 (fun t1 hF => ?_)
    exact m_iretP K hF ag.rf dX4_done_169
  unfold M_done at hF
  refine g_iload_n (i := 0) K hl dX4_done_0 rfl rfl ?_
  refine g_tsw (tgt := 215) (lo32 := 37) (hi32 := 62) K hF dX4_done_1 rfl rfl (by decide) (fun hF => ?_) (fun hF => ?_)
  · refine g_iload_n (i := 1) K hl dX4_done_215 rfl rfl ?_
    refine g_if_ne (tgt := 223) K hF dX4_done_216 (by decide) (fun hF => ?_) (fun hF => ?_)
    · exact L223   ls hF (lq_sub hl rfl)
    · refine g_iload_n (i := 2) K hl dX4_done_219 rfl rfl ?_
      refine g_if_eq (tgt := 227) K hF dX4_done_220 (by decide) (fun hF => ?_) (fun hF => ?_)
      · refine g_iconst K dX4_done_227 lc_0 ?_
        exact L228  _ ls hF (lq_sub hl rfl)
      · exact L223   ls hF (lq_sub hl rfl)
  · obtain ⟨hlo, hhi, hF⟩ := hF
    rcases sw_eq hF with ⟨hv, hF⟩ | ⟨hv0, hF⟩
    · refine g_tin (tgt := 144) K dX4_done_1 hv rfl rfl (by decide) ?_
      refine g_iload_n (i := 2) K hl dX4_done_144 rfl rfl ?_
      refine g_if_ne (tgt := 152) K hF dX4_done_145 (by decide) (fun hF => ?_) (fun hF => ?_)
      · refine g_iload_n (i := 1) K hl dX4_done_152 rfl rfl ?_
        refine g_iload_n (i := 2) K hl dX4_done_153 rfl rfl ?_
        refine g_iremT K hF dX4_done_154 (fun t1 hF => ?_)
        exact m_iretP K hF ag.rf dX4_done_155
      · refine g_iconst K dX4_done_148 lc_0 ?_
        refine g_goto (tgt := 155) K dX4_done_149 (by decide) ?_
        exact m_iretP K hF ag.rf dX4_done_155
    rcases sw_eq hF with ⟨hv, hF⟩ | ⟨hv1, hF⟩
    · refine g_tin (tgt := 198) K dX4_done_1 hv rfl rfl (by decide) ?_
      refine g_iload_n (i := 1) K hl dX4_done_198 rfl rfl ?_
      refine g_if_eq (tgt := 210) K hF dX4_done_199 (by decide) (fun hF => ?_) (fun hF => ?_)
      · exact L210   ls hF (lq_sub hl rfl)
      · refine g_iload_n (i := 2) K hl dX4_done_202 rfl rfl ?_
        refine g_if_eq (tgt := 210) K hF dX4_done_203 (by decide) (fun hF => ?_) (fun hF => ?_)
        · exact L210   ls hF (lq_sub hl rfl)
        · refine g_iconst K dX4_done_206 lc_1 ?_
          refine g_goto (tgt := 211) K dX4_done_207 (by decide) ?_
          exact L211  _ ls hF (lq_sub hl rfl)
    rcases sw_eq hF with ⟨hv, hF⟩ | ⟨hv2, hF⟩
    · refine g_tin (tgt := 215) K dX4_done_1 hv rfl rfl (by decide) ?_
      refine g_iload_n (i := 1) K hl dX4_done_215 rfl rfl ?_
      refine g_if_ne (tgt := 223) K hF dX4_done_216 (by decide) (fun hF => ?_) (fun hF => ?_)
      · exact L223   ls hF (lq_sub hl rfl)
      · refine g_iload_n (i := 2) K hl dX4_done_219 rfl rfl ?_
        refine g_if_eq (tgt := 227) K hF dX4_done_220 (by decide) (fun hF => ?_) (fun hF => ?_)
        · refine g_iconst K dX4_done_227 lc_0 ?_
          exact L228  _ ls hF (lq_sub hl rfl)
        · exact L223   ls hF (lq_sub hl rfl)
    rcases sw_eq hF with ⟨hv, hF⟩ | ⟨hv3, hF⟩
    · refine g_tin (tgt := 215) K dX4_done_1 hv rfl rfl (by decide) ?_
      refine g_iload_n (i := 1) K hl dX4_done_215 rfl rfl ?_
      refine g_if_ne (tgt := 223) K hF dX4_done_216 (by decide) (fun hF => ?_) (fun hF => ?_)
      · exact L223   ls hF (lq_sub hl rfl)
      · refine g_iload_n (i := 2) K hl dX4_done_219 rfl rfl ?_
        refine g_if_eq (tgt := 227) K hF dX4_done_220 (by decide) (fun hF => ?_) (fun hF => ?_)
        · refine g_iconst K dX4_done_227 lc_0 ?_
          exact L228  _ ls hF (lq_sub hl rfl)
        · exact L223   ls hF (lq_sub hl rfl)
    rcases sw_eq hF with ⟨hv, hF⟩ | ⟨hv4, hF⟩
    · refine g_tin (tgt := 215) K dX4_done_1 hv rfl rfl (by decide) ?_
      refine g_iload_n (i := 1) K hl dX4_done_215 rfl rfl ?_
      refine g_if_ne (tgt := 223) K hF dX4_done_216 (by decide) (fun hF => ?_) (fun hF => ?_)
      · exact L223   ls hF (lq_sub hl rfl)
      · refine g_iload_n (i := 2) K hl dX4_done_219 rfl rfl ?_
        refine g_if_eq (tgt := 227) K hF dX4_done_220 (by decide) (fun hF => ?_) (fun hF => ?_)
        · refine g_iconst K dX4_done_227 lc_0 ?_
          exact L228  _ ls hF (lq_sub hl rfl)
        · exact L223   ls hF (lq_sub hl rfl)
    rcases sw_eq hF with ⟨hv, hF⟩ | ⟨hv5, hF⟩
    · refine g_tin (tgt := 128) K dX4_done_1 hv rfl rfl (by decide) ?_
      refine g_iload_n (i := 1) K hl dX4_done_128 rfl rfl ?_
      refine g_iload_n (i := 2) K hl dX4_done_129 rfl rfl ?_
      refine g_imul K dX4_done_130 ?_
      exact m_iretP K hF ag.rf dX4_done_131
    rcases sw_eq hF with ⟨hv, hF⟩ | ⟨hv6, hF⟩
    · refine g_tin (tgt := 120) K dX4_done_1 hv rfl rfl (by decide) ?_
      refine g_iload_n (i := 1) K hl dX4_done_120 rfl rfl ?_
      refine g_iload_n (i := 2) K hl dX4_done_121 rfl rfl ?_
      refine g_iadd K dX4_done_122 ?_
      exact m_iretP K hF ag.rf dX4_done_123
    rcases sw_eq hF with ⟨hv, hF⟩ | ⟨hv7, hF⟩
    · refine g_tin (tgt := 215) K dX4_done_1 hv rfl rfl (by decide) ?_
      refine g_iload_n (i := 1) K hl dX4_done_215 rfl rfl ?_
      refine g_if_ne (tgt := 223) K hF dX4_done_216 (by decide) (fun hF => ?_) (fun hF => ?_)
      · exact L223   ls hF (lq_sub hl rfl)
      · refine g_iload_n (i := 2) K hl dX4_done_219 rfl rfl ?_
        refine g_if_eq (tgt := 227) K hF dX4_done_220 (by decide) (fun hF => ?_) (fun hF => ?_)
        · refine g_iconst K dX4_done_227 lc_0 ?_
          exact L228  _ ls hF (lq_sub hl rfl)
        · exact L223   ls hF (lq_sub hl rfl)
    rcases sw_eq hF with ⟨hv, hF⟩ | ⟨hv8, hF⟩
    · refine g_tin (tgt := 124) K dX4_done_1 hv rfl rfl (by decide) ?_
      refine g_iload_n (i := 1) K hl dX4_done_124 rfl rfl ?_
      refine g_iload_n (i := 2) K hl dX4_done_125 rfl rfl ?_
      refine g_isub K dX4_done_126 ?_
      exact m_iretP K hF ag.rf dX4_done_127
    rcases sw_eq hF with ⟨hv, hF⟩ | ⟨hv9, hF⟩
    · refine g_tin (tgt := 215) K dX4_done_1 hv rfl rfl (by decide) ?_
      refine g_iload_n (i := 1) K hl dX4_done_215 rfl rfl ?_
      refine g_if_ne (tgt := 223) K hF dX4_done_216 (by decide) (fun hF => ?_) (fun hF => ?_)
      · exact L223   ls hF (lq_sub hl rfl)
      · refine g_iload_n (i := 2) K hl dX4_done_219 rfl rfl ?_
        refine g_if_eq (tgt := 227) K hF dX4_done_220 (by decide) (fun hF => ?_) (fun hF => ?_)
        · refine g_iconst K dX4_done_227 lc_0 ?_
          exact L228  _ ls hF (lq_sub hl rfl)
        · exact L223   ls hF (lq_sub hl rfl)
    rcases sw_eq hF with ⟨hv, hF⟩ | ⟨hv10, hF⟩
    · refine g_tin (tgt := 132) K dX4_done_1 hv rfl rfl (by decide) ?_
      refine g_iload_n (i := 2) K hl dX4_done_132 rfl rfl ?_
      refine g_if_ne (tgt := 140) K hF dX4_done_133 (by decide) (fun hF => ?_) (fun hF => ?_)
      · refine g_iload_n (i := 1) K hl dX4_done_140 rfl rfl ?_
        refine g_iload_n (i := 2) K hl dX4_done_141 rfl rfl ?_
        refine g_idivT K hF dX4_done_142 (fun t2 hF => ?_)
        exact m_iretP K hF ag.rf dX4_done_143
      · refine g_iconst K dX4_done_136 lc_0 ?_
        refine g_goto (tgt := 143) K dX4_done_137 (by decide) ?_
        exact m_iretP K hF ag.rf dX4_done_143
    rcases sw_eq hF with ⟨hv, hF⟩ | ⟨hv11, hF⟩
    · refine g_tin (tgt := 215) K dX4_done_1 hv rfl rfl (by decide) ?_
      refine g_iload_n (i := 1) K hl dX4_done_215 rfl rfl ?_
      refine g_if_ne (tgt := 223) K hF dX4_done_216 (by decide) (fun hF => ?_) (fun hF => ?_)
      · exact L223   ls hF (lq_sub hl rfl)
      · refine g_iload_n (i := 2) K hl dX4_done_219 rfl rfl ?_
        refine g_if_eq (tgt := 227) K hF dX4_done_220 (by decide) (fun hF => ?_) (fun hF => ?_)
        · refine g_iconst K dX4_done_227 lc_0 ?_
          exact L228  _ ls hF (lq_sub hl rfl)
        · exact L223   ls hF (lq_sub hl rfl)
    rcases sw_eq hF with ⟨hv, hF⟩ | ⟨hv12, hF⟩
    · refine g_tin (tgt := 215) K dX4_done_1 hv rfl rfl (by decide) ?_
      refine g_iload_n (i := 1) K hl dX4_done_215 rfl rfl ?_
      refine g_if_ne (tgt := 223) K hF dX4_done_216 (by decide) (fun hF => ?_) (fun hF => ?_)
      · exact L223   ls hF (lq_sub hl rfl)
      · refine g_iload_n (i := 2) K hl dX4_done_219 rfl rfl ?_
        refine g_if_eq (tgt := 227) K hF dX4_done_220 (by decide) (fun hF => ?_) (fun hF => ?_)
        · refine g_iconst K dX4_done_227 lc_0 ?_
          exact L228  _ ls hF (lq_sub hl rfl)
        · exact L223   ls hF (lq_sub hl rfl)
    rcases sw_eq hF with ⟨hv, hF⟩ | ⟨hv13, hF⟩
    · refine g_tin (tgt := 215) K dX4_done_1 hv rfl rfl (by decide) ?_
      refine g_iload_n (i := 1) K hl dX4_done_215 rfl rfl ?_
      refine g_if_ne (tgt := 223) K hF dX4_done_216 (by decide) (fun hF => ?_) (fun hF => ?_)
      · exact L223   ls hF (lq_sub hl rfl)
      · refine g_iload_n (i := 2) K hl dX4_done_219 rfl rfl ?_
        refine g_if_eq (tgt := 227) K hF dX4_done_220 (by decide) (fun hF => ?_) (fun hF => ?_)
        · refine g_iconst K dX4_done_227 lc_0 ?_
          exact L228  _ ls hF (lq_sub hl rfl)
        · exact L223   ls hF (lq_sub hl rfl)
    rcases sw_eq hF with ⟨hv, hF⟩ | ⟨hv14, hF⟩
    · refine g_tin (tgt := 215) K dX4_done_1 hv rfl rfl (by decide) ?_
      refine g_iload_n (i := 1) K hl dX4_done_215 rfl rfl ?_
      refine g_if_ne (tgt := 223) K hF dX4_done_216 (by decide) (fun hF => ?_) (fun hF => ?_)
      · exact L223   ls hF (lq_sub hl rfl)
      · refine g_iload_n (i := 2) K hl dX4_done_219 rfl rfl ?_
        refine g_if_eq (tgt := 227) K hF dX4_done_220 (by decide) (fun hF => ?_) (fun hF => ?_)
        · refine g_iconst K dX4_done_227 lc_0 ?_
          exact L228  _ ls hF (lq_sub hl rfl)
        · exact L223   ls hF (lq_sub hl rfl)
    rcases sw_eq hF with ⟨hv, hF⟩ | ⟨hv15, hF⟩
    · refine g_tin (tgt := 215) K dX4_done_1 hv rfl rfl (by decide) ?_
      refine g_iload_n (i := 1) K hl dX4_done_215 rfl rfl ?_
      refine g_if_ne (tgt := 223) K hF dX4_done_216 (by decide) (fun hF => ?_) (fun hF => ?_)
      · exact L223   ls hF (lq_sub hl rfl)
      · refine g_iload_n (i := 2) K hl dX4_done_219 rfl rfl ?_
        refine g_if_eq (tgt := 227) K hF dX4_done_220 (by decide) (fun hF => ?_) (fun hF => ?_)
        · refine g_iconst K dX4_done_227 lc_0 ?_
          exact L228  _ ls hF (lq_sub hl rfl)
        · exact L223   ls hF (lq_sub hl rfl)
    rcases sw_eq hF with ⟨hv, hF⟩ | ⟨hv16, hF⟩
    · refine g_tin (tgt := 215) K dX4_done_1 hv rfl rfl (by decide) ?_
      refine g_iload_n (i := 1) K hl dX4_done_215 rfl rfl ?_
      refine g_if_ne (tgt := 223) K hF dX4_done_216 (by decide) (fun hF => ?_) (fun hF => ?_)
      · exact L223   ls hF (lq_sub hl rfl)
      · refine g_iload_n (i := 2) K hl dX4_done_219 rfl rfl ?_
        refine g_if_eq (tgt := 227) K hF dX4_done_220 (by decide) (fun hF => ?_) (fun hF => ?_)
        · refine g_iconst K dX4_done_227 lc_0 ?_
          exact L228  _ ls hF (lq_sub hl rfl)
        · exact L223   ls hF (lq_sub hl rfl)
    rcases sw_eq hF with ⟨hv, hF⟩ | ⟨hv17, hF⟩
    · refine g_tin (tgt := 215) K dX4_done_1 hv rfl rfl (by decide) ?_
      refine g_iload_n (i := 1) K hl dX4_done_215 rfl rfl ?_
      refine g_if_ne (tgt := 223) K hF dX4_done_216 (by decide) (fun hF => ?_) (fun hF => ?_)
      · exact L223   ls hF (lq_sub hl rfl)
      · refine g_iload_n (i := 2) K hl dX4_done_219 rfl rfl ?_
        refine g_if_eq (tgt := 227) K hF dX4_done_220 (by decide) (fun hF => ?_) (fun hF => ?_)
        · refine g_iconst K dX4_done_227 lc_0 ?_
          exact L228  _ ls hF (lq_sub hl rfl)
        · exact L223   ls hF (lq_sub hl rfl)
    rcases sw_eq hF with ⟨hv, hF⟩ | ⟨hv18, hF⟩
    · refine g_tin (tgt := 215) K dX4_done_1 hv rfl rfl (by decide) ?_
      refine g_iload_n (i := 1) K hl dX4_done_215 rfl rfl ?_
      refine g_if_ne (tgt := 223) K hF dX4_done_216 (by decide) (fun hF => ?_) (fun hF => ?_)
      · exact L223   ls hF (lq_sub hl rfl)
      · refine g_iload_n (i := 2) K hl dX4_done_219 rfl rfl ?_
        refine g_if_eq (tgt := 227) K hF dX4_done_220 (by decide) (fun hF => ?_) (fun hF => ?_)
        · refine g_iconst K dX4_done_227 lc_0 ?_
          exact L228  _ ls hF (lq_sub hl rfl)
        · exact L223   ls hF (lq_sub hl rfl)
    rcases sw_eq hF with ⟨hv, hF⟩ | ⟨hv19, hF⟩
    · refine g_tin (tgt := 215) K dX4_done_1 hv rfl rfl (by decide) ?_
      refine g_iload_n (i := 1) K hl dX4_done_215 rfl rfl ?_
      refine g_if_ne (tgt := 223) K hF dX4_done_216 (by decide) (fun hF => ?_) (fun hF => ?_)
      · exact L223   ls hF (lq_sub hl rfl)
      · refine g_iload_n (i := 2) K hl dX4_done_219 rfl rfl ?_
        refine g_if_eq (tgt := 227) K hF dX4_done_220 (by decide) (fun hF => ?_) (fun hF => ?_)
        · refine g_iconst K dX4_done_227 lc_0 ?_
          exact L228  _ ls hF (lq_sub hl rfl)
        · exact L223   ls hF (lq_sub hl rfl)
    rcases sw_eq hF with ⟨hv, hF⟩ | ⟨hv20, hF⟩
    · refine g_tin (tgt := 215) K dX4_done_1 hv rfl rfl (by decide) ?_
      refine g_iload_n (i := 1) K hl dX4_done_215 rfl rfl ?_
      refine g_if_ne (tgt := 223) K hF dX4_done_216 (by decide) (fun hF => ?_) (fun hF => ?_)
      · exact L223   ls hF (lq_sub hl rfl)
      · refine g_iload_n (i := 2) K hl dX4_done_219 rfl rfl ?_
        refine g_if_eq (tgt := 227) K hF dX4_done_220 (by decide) (fun hF => ?_) (fun hF => ?_)
        · refine g_iconst K dX4_done_227 lc_0 ?_
          exact L228  _ ls hF (lq_sub hl rfl)
        · exact L223   ls hF (lq_sub hl rfl)
    rcases sw_eq hF with ⟨hv, hF⟩ | ⟨hv21, hF⟩
    · refine g_tin (tgt := 215) K dX4_done_1 hv rfl rfl (by decide) ?_
      refine g_iload_n (i := 1) K hl dX4_done_215 rfl rfl ?_
      refine g_if_ne (tgt := 223) K hF dX4_done_216 (by decide) (fun hF => ?_) (fun hF => ?_)
      · exact L223   ls hF (lq_sub hl rfl)
      · refine g_iload_n (i := 2) K hl dX4_done_219 rfl rfl ?_
        refine g_if_eq (tgt := 227) K hF dX4_done_220 (by decide) (fun hF => ?_) (fun hF => ?_)
        · refine g_iconst K dX4_done_227 lc_0 ?_
          exact L228  _ ls hF (lq_sub hl rfl)
        · exact L223   ls hF (lq_sub hl rfl)
    rcases sw_eq hF with ⟨hv, hF⟩ | ⟨hv22, hF⟩
    · refine g_tin (tgt := 215) K dX4_done_1 hv rfl rfl (by decide) ?_
      refine g_iload_n (i := 1) K hl dX4_done_215 rfl rfl ?_
      refine g_if_ne (tgt := 223) K hF dX4_done_216 (by decide) (fun hF => ?_) (fun hF => ?_)
      · exact L223   ls hF (lq_sub hl rfl)
      · refine g_iload_n (i := 2) K hl dX4_done_219 rfl rfl ?_
        refine g_if_eq (tgt := 227) K hF dX4_done_220 (by decide) (fun hF => ?_) (fun hF => ?_)
        · refine g_iconst K dX4_done_227 lc_0 ?_
          exact L228  _ ls hF (lq_sub hl rfl)
        · exact L223   ls hF (lq_sub hl rfl)
    rcases sw_eq hF with ⟨hv, hF⟩ | ⟨hv23, hF⟩
    · refine g_tin (tgt := 156) K dX4_done_1 hv rfl rfl (by decide) ?_
      refine g_iload_n (i := 1) K hl dX4_done_156 rfl rfl ?_
      refine g_iload_n (i := 2) K hl dX4_done_157 rfl rfl ?_
      refine g_icmp_ge (tgt := 165) K hF dX4_done_158 (by decide) (fun hF => ?_) (fun hF => ?_)
      · refine g_iconst K dX4_done_165 lc_0 ?_
        exact L166  _ ls hF (lq_sub hl rfl)
      · refine g_iconst K dX4_done_161 lc_1 ?_
        refine g_goto (tgt := 166) K dX4_done_162 (by decide) ?_
        exact L166  _ ls hF (lq_sub hl rfl)
    rcases sw_eq hF with ⟨hv, hF⟩ | ⟨hv24, hF⟩
    · refine g_tin (tgt := 184) K dX4_done_1 hv rfl rfl (by decide) ?_
      refine g_iload_n (i := 1) K hl dX4_done_184 rfl rfl ?_
      refine g_iload_n (i := 2) K hl dX4_done_185 rfl rfl ?_
      refine g_icmp_ne (tgt := 193) K hF dX4_done_186 (by decide) (fun hF => ?_) (fun hF => ?_)
      · refine g_iconst K dX4_done_193 lc_0 ?_
        exact L194  _ ls hF (lq_sub hl rfl)
      · refine g_iconst K dX4_done_189 lc_1 ?_
        refine g_goto (tgt := 194) K dX4_done_190 (by decide) ?_
        exact L194  _ ls hF (lq_sub hl rfl)
    have hv := sw_last26 hlo hhi hv0 hv1 hv2 hv3 hv4 hv5 hv6 hv7 hv8 hv9 hv10 hv11 hv12 hv13 hv14 hv15 hv16 hv17 hv18 hv19 hv20 hv21 hv22 hv23 hv24
    refine g_tin (tgt := 170) K dX4_done_1 hv rfl rfl (by decide) ?_
    refine g_iload_n (i := 1) K hl dX4_done_170 rfl rfl ?_
    refine g_iload_n (i := 2) K hl dX4_done_171 rfl rfl ?_
    refine g_icmp_le (tgt := 179) K hF dX4_done_172 (by decide) (fun hF => ?_) (fun hF => ?_)
    · refine g_iconst K dX4_done_179 lc_0 ?_
      exact L180  _ ls hF (lq_sub hl rfl)
    · refine g_iconst K dX4_done_175 lc_1 ?_
      refine g_goto (tgt := 180) K dX4_done_176 (by decide) ?_
      exact L180  _ ls hF (lq_sub hl rfl)

theorem cp_amount : cpS yX4_amount cX4_amount 1 (some .int) 1 := ⟨q2044, q152, q2045, by decide +kernel⟩
set_option maxHeartbeats 4000000 in
set_option maxRecDepth 100000 in
theorem w_amount {l : Launch} {D : va_G} {cz : Nat → ClassId} {qm : Nat} (σ0 : MS) (a0 : Int32) (r : Int32) (hF : M_amount a0 = some r) : mMet l D cz qm yX4_amount cX4_amount 1 (some .int) 0 wr_amount [.int a0] σ0 (some (.int r)) σ0 := by
  refine m_of (by decide) rfl ?_
  intro p e s m args below meth c ls K hl
  unfold M_amount at hF
  refine g_iload_n (i := 0) K hl dX4_amount_0 rfl rfl ?_
  refine g_if_ge (tgt := 9) K hF dX4_amount_1 (by decide) (fun hF => ?_) (fun hF => ?_)
  · refine g_iload_n (i := 0) K hl dX4_amount_9 rfl rfl ?_
    exact m_iretP K hF ag.rf dX4_amount_10
  · refine g_iload_n (i := 0) K hl dX4_amount_4 rfl rfl ?_
    refine g_ineg K dX4_amount_5 ?_
    refine g_goto (tgt := 10) K dX4_amount_6 (by decide) ?_
    exact m_iretP K hF ag.rf dX4_amount_10

theorem cp_far : cpV yX4_far cX4_far 5 (some .int) 2 := ⟨q2041, qs104, q152, q2042, by decide +kernel⟩
set_option maxHeartbeats 4000000 in
set_option maxRecDepth 100000 in
theorem w_far {l : Launch} {D : va_G} {cz : Nat → ClassId} {qm : Nat} (σ0 : MS) (a0 : Int32) (a1 : Int32) (r : Int32) (hF : M_far σ0 a0 a1 = some r) : mMet l D cz qm yX4_far cX4_far 5 (some .int) 1 wr_far [.ref qm, .int a0, .int a1] σ0 (some (.int r)) σ0 := by
  refine m_of (by decide) rfl ?_
  intro p e s m args below meth c ls K hl
  unfold M_far at hF
  refine g_aload_n (i := 0) K hl dX4_far_0 rfl rfl ?_
  refine mget_66 K dX4_far_1 ?_
  refine g_iconst K dX4_far_4 lc_5 ?_
  refine g_iload_n (i := 2) K hl dX4_far_5 rfl rfl ?_
  refine g_imul K dX4_far_6 ?_
  refine mld_66 K hF dX4_far_7 (fun t1 hF => ?_)
  refine g_aload_n (i := 0) K hl dX4_far_8 rfl rfl ?_
  refine mget_42 K dX4_far_9 ?_
  refine g_iload_n (i := 1) K hl dX4_far_12 rfl rfl ?_
  refine mld_42 K hF dX4_far_13 (fun t2 hF => ?_)
  refine g_isub K dX4_far_14 ?_
  refine m_callSP K hl hF (fun t h => w_amount _ _ t h) cp_amount q2043 rfl rfl rfl rfl rfl dX4_far_15 (fun t3 hF => ?_)
  refine g_istore_n (i := 3) K hl dX4_far_18 rfl rfl rfl (fun ls hl => ?_)
  refine g_aload_n (i := 0) K hl dX4_far_19 rfl rfl ?_
  refine mget_66 K dX4_far_20 ?_
  refine g_iconst K dX4_far_23 lc_5 ?_
  refine g_iload_n (i := 2) K hl dX4_far_24 rfl rfl ?_
  refine g_imul K dX4_far_25 ?_
  refine g_iconst K dX4_far_26 lc_1 ?_
  refine g_iadd K dX4_far_27 ?_
  refine mld_66 K hF dX4_far_28 (fun t4 hF => ?_)
  refine g_aload_n (i := 0) K hl dX4_far_29 rfl rfl ?_
  refine mget_43 K dX4_far_30 ?_
  refine g_iload_n (i := 1) K hl dX4_far_33 rfl rfl ?_
  refine mld_43 K hF dX4_far_34 (fun t5 hF => ?_)
  refine g_isub K dX4_far_35 ?_
  refine m_callSP K hl hF (fun t h => w_amount _ _ t h) cp_amount q2043 rfl rfl rfl rfl rfl dX4_far_36 (fun t6 hF => ?_)
  refine g_istore (i := 4) K hl dX4_far_39 rfl rfl (fun ls hl => ?_)
  refine g_iload_n (i := 3) K hl dX4_far_41 rfl rfl ?_
  refine g_iload (i := 4) K hl dX4_far_42 rfl ?_
  refine g_icmp_le (tgt := 51) K hF dX4_far_44 (by decide) (fun hF => ?_) (fun hF => ?_)
  · refine g_iload (i := 4) K hl dX4_far_51 rfl ?_
    exact m_iretP K hF ag.rf dX4_far_53
  · refine g_iload_n (i := 3) K hl dX4_far_47 rfl rfl ?_
    refine g_goto (tgt := 53) K dX4_far_48 (by decide) ?_
    exact m_iretP K hF ag.rf dX4_far_53

theorem cp_isRim : cpV yX4_isRim cX4_isRim 2 (some .boolean) 1 := ⟨q2051, qs105, q152, q2052, by decide +kernel⟩
set_option maxHeartbeats 4000000 in
set_option maxRecDepth 100000 in
theorem w_isRim {l : Launch} {D : va_G} {cz : Nat → ClassId} {qm : Nat} (σ0 : MS) (a0 : Int32) (r : Int32) (hF : M_isRim σ0 a0 = some r) : mMet l D cz qm yX4_isRim cX4_isRim 2 (some .boolean) 0 wr_isRim [.ref qm, .int a0] σ0 (some (.int r)) σ0 := by
  refine m_of (by decide) rfl ?_
  intro p e s m args below meth c ls K hl
  unfold M_isRim at hF
  refine g_aload_n (i := 0) K hl dX4_isRim_0 rfl rfl ?_
  refine mget_66 K dX4_isRim_1 ?_
  refine g_iconst K dX4_isRim_4 lc_5 ?_
  refine g_iload_n (i := 1) K hl dX4_isRim_5 rfl rfl ?_
  refine g_imul K dX4_isRim_6 ?_
  refine mld_66 K hF dX4_isRim_7 (fun t1 hF => ?_)
  refine g_if_eq (tgt := 60) K hF dX4_isRim_8 (by decide) (fun hF => ?_) (fun hF => ?_)
  · refine g_iconst K dX4_isRim_60 lc_1 ?_
    refine g_goto (tgt := 65) K dX4_isRim_61 (by decide) ?_
    exact m_zretP K hF (Or.inr rfl) ag.rf dX4_isRim_65
  · refine g_aload_n (i := 0) K hl dX4_isRim_11 rfl rfl ?_
    refine mget_66 K dX4_isRim_12 ?_
    refine g_iconst K dX4_isRim_15 lc_5 ?_
    refine g_iload_n (i := 1) K hl dX4_isRim_16 rfl rfl ?_
    refine g_imul K dX4_isRim_17 ?_
    refine mld_66 K hF dX4_isRim_18 (fun t2 hF => ?_)
    refine g_aload_n (i := 0) K hl dX4_isRim_19 rfl rfl ?_
    refine mget_56 K dX4_isRim_20 ?_
    refine g_iconst K dX4_isRim_23 lc_1 ?_
    refine g_isub K dX4_isRim_24 ?_
    refine g_icmp_eq (tgt := 60) K hF dX4_isRim_25 (by decide) (fun hF => ?_) (fun hF => ?_)
    · refine g_iconst K dX4_isRim_60 lc_1 ?_
      refine g_goto (tgt := 65) K dX4_isRim_61 (by decide) ?_
      exact m_zretP K hF (Or.inr rfl) ag.rf dX4_isRim_65
    · refine g_aload_n (i := 0) K hl dX4_isRim_28 rfl rfl ?_
      refine mget_66 K dX4_isRim_29 ?_
      refine g_iconst K dX4_isRim_32 lc_5 ?_
      refine g_iload_n (i := 1) K hl dX4_isRim_33 rfl rfl ?_
      refine g_imul K dX4_isRim_34 ?_
      refine g_iconst K dX4_isRim_35 lc_1 ?_
      refine g_iadd K dX4_isRim_36 ?_
      refine mld_66 K hF dX4_isRim_37 (fun t3 hF => ?_)
      refine g_if_eq (tgt := 60) K hF dX4_isRim_38 (by decide) (fun hF => ?_) (fun hF => ?_)
      · refine g_iconst K dX4_isRim_60 lc_1 ?_
        refine g_goto (tgt := 65) K dX4_isRim_61 (by decide) ?_
        exact m_zretP K hF (Or.inr rfl) ag.rf dX4_isRim_65
      · refine g_aload_n (i := 0) K hl dX4_isRim_41 rfl rfl ?_
        refine mget_66 K dX4_isRim_42 ?_
        refine g_iconst K dX4_isRim_45 lc_5 ?_
        refine g_iload_n (i := 1) K hl dX4_isRim_46 rfl rfl ?_
        refine g_imul K dX4_isRim_47 ?_
        refine g_iconst K dX4_isRim_48 lc_1 ?_
        refine g_iadd K dX4_isRim_49 ?_
        refine mld_66 K hF dX4_isRim_50 (fun t4 hF => ?_)
        refine g_aload_n (i := 0) K hl dX4_isRim_51 rfl rfl ?_
        refine mget_57 K dX4_isRim_52 ?_
        refine g_iconst K dX4_isRim_55 lc_1 ?_
        refine g_isub K dX4_isRim_56 ?_
        refine g_icmp_ne (tgt := 64) K hF dX4_isRim_57 (by decide) (fun hF => ?_) (fun hF => ?_)
        · refine g_iconst K dX4_isRim_64 lc_0 ?_
          exact m_zretP K hF (Or.inl rfl) ag.rf dX4_isRim_65
        · refine g_iconst K dX4_isRim_60 lc_1 ?_
          refine g_goto (tgt := 65) K dX4_isRim_61 (by decide) ?_
          exact m_zretP K hF (Or.inr rfl) ag.rf dX4_isRim_65

theorem cp_askOf : cpV yX4_askOf cX4_askOf 6 (some .int) 5 := ⟨q2075, qs111, q152, q2076, by decide +kernel⟩
set_option maxHeartbeats 4000000 in
set_option maxRecDepth 100000 in
theorem w_askOf {l : Launch} {D : va_G} {cz : Nat → ClassId} {qm : Nat} (σ0 : MS) (a0 : Int32) (a1 : Int32) (a2 : Int32) (a3 : Int32) (a4 : Int32) (r : Int32) (hF : M_askOf σ0 a0 a1 a2 a3 a4 = some r) : mMet l D cz qm yX4_askOf cX4_askOf 6 (some .int) 2 wr_askOf [.ref qm, .int a0, .int a1, .int a2, .int a3, .int a4] σ0 (some (.int r)) σ0 := by
  refine m_of (by decide) rfl ?_
  intro p e s m args below meth c ls K hl
  unfold M_askOf at hF
  refine g_iload_n (i := 1) K hl dX4_askOf_0 rfl rfl ?_
  refine g_tsw (tgt := 129) (lo32 := 0) (hi32 := 8) K hF dX4_askOf_1 rfl rfl (by decide) (fun hF => ?_) (fun hF => ?_)
  · refine g_iload (i := 5) K hl dX4_askOf_129 rfl ?_
    exact m_iretP K hF ag.rf dX4_askOf_131
  · obtain ⟨hlo, hhi, hF⟩ := hF
    rcases sw_eq hF with ⟨hv, hF⟩ | ⟨hv0, hF⟩
    · refine g_tin (tgt := 52) K dX4_askOf_1 hv rfl rfl (by decide) ?_
      refine g_aload_n (i := 0) K hl dX4_askOf_52 rfl rfl ?_
      refine mget_66 K dX4_askOf_53 ?_
      refine g_iconst K dX4_askOf_56 lc_5 ?_
      refine g_iload_n (i := 3) K hl dX4_askOf_57 rfl rfl ?_
      refine g_imul K dX4_askOf_58 ?_
      refine g_iconst K dX4_askOf_59 lc_4 ?_
      refine g_iadd K dX4_askOf_60 ?_
      refine mld_66 K hF dX4_askOf_61 (fun t1 hF => ?_)
      exact m_iretP K hF ag.rf dX4_askOf_62
    rcases sw_eq hF with ⟨hv, hF⟩ | ⟨hv1, hF⟩
    · refine g_tin (tgt := 63) K dX4_askOf_1 hv rfl rfl (by decide) ?_
      refine g_aload_n (i := 0) K hl dX4_askOf_63 rfl rfl ?_
      refine mget_38 K dX4_askOf_64 ?_
      refine g_iload_n (i := 3) K hl dX4_askOf_67 rfl rfl ?_
      refine mld_38 K hF dX4_askOf_68 (fun t2 hF => ?_)
      exact m_iretP K hF ag.rf dX4_askOf_69
    rcases sw_eq hF with ⟨hv, hF⟩ | ⟨hv2, hF⟩
    · refine g_tin (tgt := 70) K dX4_askOf_1 hv rfl rfl (by decide) ?_
      refine g_aload_n (i := 0) K hl dX4_askOf_70 rfl rfl ?_
      refine mget_48 K dX4_askOf_71 ?_
      refine g_iload_n (i := 3) K hl dX4_askOf_74 rfl rfl ?_
      refine mld_48 K hF dX4_askOf_75 (fun t3 hF => ?_)
      refine m_callSP K hl hF (fun t h => w_truth _ _ t h) cp_truth q2077 rfl rfl rfl rfl rfl dX4_askOf_76 (fun t4 hF => ?_)
      exact m_iretP K hF ag.rf dX4_askOf_79
    rcases sw_eq hF with ⟨hv, hF⟩ | ⟨hv3, hF⟩
    · refine g_tin (tgt := 80) K dX4_askOf_1 hv rfl rfl (by decide) ?_
      refine g_aload_n (i := 0) K hl dX4_askOf_80 rfl rfl ?_
      refine g_iload_n (i := 3) K hl dX4_askOf_81 rfl rfl ?_
      refine m_callVP K hl hF (fun t h => w_isRim _ _ t h) rfl cp_isRim q2049 rfl rfl rfl rfl rfl dX4_askOf_82 (fun t5 hF => ?_)
      refine m_callSP K hl hF (fun t h => w_truth _ _ t h) cp_truth q2077 rfl rfl rfl rfl rfl dX4_askOf_85 (fun t6 hF => ?_)
      exact m_iretP K hF ag.rf dX4_askOf_88
    rcases sw_eq hF with ⟨hv, hF⟩ | ⟨hv4, hF⟩
    · refine g_tin (tgt := 89) K dX4_askOf_1 hv rfl rfl (by decide) ?_
      refine g_aload_n (i := 0) K hl dX4_askOf_89 rfl rfl ?_
      refine g_iload_n (i := 2) K hl dX4_askOf_90 rfl rfl ?_
      refine g_iload_n (i := 3) K hl dX4_askOf_91 rfl rfl ?_
      refine m_callVP K hl hF (fun t h => w_far _ _ _ t h) rfl cp_far q2039 rfl rfl rfl rfl rfl dX4_askOf_92 (fun t7 hF => ?_)
      exact m_iretP K hF ag.rf dX4_askOf_95
    rcases sw_eq hF with ⟨hv, hF⟩ | ⟨hv5, hF⟩
    · refine g_tin (tgt := 96) K dX4_askOf_1 hv rfl rfl (by decide) ?_
      refine g_aload_n (i := 0) K hl dX4_askOf_96 rfl rfl ?_
      refine mget_66 K dX4_askOf_97 ?_
      refine g_iconst K dX4_askOf_100 lc_5 ?_
      refine g_iload_n (i := 3) K hl dX4_askOf_101 rfl rfl ?_
      refine g_imul K dX4_askOf_102 ?_
      refine g_iconst K dX4_askOf_103 lc_3 ?_
      refine g_iadd K dX4_askOf_104 ?_
      refine mld_66 K hF dX4_askOf_105 (fun t8 hF => ?_)
      exact m_iretP K hF ag.rf dX4_askOf_106
    rcases sw_eq hF with ⟨hv, hF⟩ | ⟨hv6, hF⟩
    · refine g_tin (tgt := 107) K dX4_askOf_1 hv rfl rfl (by decide) ?_
      refine g_aload_n (i := 0) K hl dX4_askOf_107 rfl rfl ?_
      refine mget_46 K dX4_askOf_108 ?_
      refine g_iload_n (i := 2) K hl dX4_askOf_111 rfl rfl ?_
      refine mld_46 K hF dX4_askOf_112 (fun t9 hF => ?_)
      exact m_iretP K hF ag.rf dX4_askOf_113
    rcases sw_eq hF with ⟨hv, hF⟩ | ⟨hv7, hF⟩
    · refine g_tin (tgt := 114) K dX4_askOf_1 hv rfl rfl (by decide) ?_
      refine g_aload_n (i := 0) K hl dX4_askOf_114 rfl rfl ?_
      refine mget_66 K dX4_askOf_115 ?_
      refine g_bipush K dX4_askOf_118 lb_50 ?_
      refine g_iconst K dX4_askOf_120 lc_3 ?_
      refine g_iload_n (i := 2) K hl dX4_askOf_121 rfl rfl ?_
      refine g_imul K dX4_askOf_122 ?_
      refine g_iadd K dX4_askOf_123 ?_
      refine mld_66 K hF dX4_askOf_124 (fun t10 hF => ?_)
      exact m_iretP K hF ag.rf dX4_askOf_125
    have hv := sw_last9 hlo hhi hv0 hv1 hv2 hv3 hv4 hv5 hv6 hv7
    refine g_tin (tgt := 126) K dX4_askOf_1 hv rfl rfl (by decide) ?_
    refine g_iload (i := 4) K hl dX4_askOf_126 rfl ?_
    exact m_iretP K hF ag.rf dX4_askOf_128

theorem cp_worked : cpV yX4_worked cX4_worked 8 (some .int) 5 := ⟨q2071, qs110, q152, q2072, by decide +kernel⟩
set_option maxHeartbeats 4000000 in
set_option maxRecDepth 100000 in
theorem w_worked {l : Launch} {D : va_G} {cz : Nat → ClassId} {qm : Nat} (G : Nat) (σ0 : MS) (a0 : Int32) (a1 : Int32) (a2 : Int32) (a3 : Int32) (a4 : Int32) (r : (Int32 × MS)) (hF : M_worked G σ0 a0 a1 a2 a3 a4 = some r) : mMet l D cz qm yX4_worked cX4_worked 8 (some .int) 3 wr_worked [.ref qm, .int a0, .int a1, .int a2, .int a3, .int a4] σ0 (some (.int r.1)) r.2 := by
  refine m_of (by decide) rfl ?_
  intro p e s m args below meth c ls K hl
  have L134 : ∀ (k10 : MS → Int32 → Int32 → Int32 → Int32 → Int32 → Int32 → Int32 → Option (Int32 × MS)) (hk10 : (∀ (σ : MS) (x1 : Int32) (x2 : Int32) (x3 : Int32) (x4 : Int32) (x5 : Int32) (x6 : Int32) (x7 : Int32) (ls : Array Slot), k10 σ x1 x2 x3 x4 x5 x6 x7 = some r → ag wr_worked σ0 σ → lq ls 8 [(0, some (.ref qm)), (1, some (.int x1)), (2, some (.int x2)), (3, some (.int x3)), (4, some (.int x4)), (5, some (.int x5)), (6, some (.int x6)), (7, some (.int x7))] → ZM p l e 3 s m args below meth c D cz qm wr_worked σ0 (some (.int r.1)) r.2 σ (F0 m 10 ls []))) (σ : MS) (x1 : Int32) (x2 : Int32) (x3 : Int32) (x4 : Int32) (x5 : Int32) (x6 : Int32) (x7 : Int32) (s1 : Int32) (s2 : Int32) (ls : Array Slot), M_worked_L134 G k10 σ x1 x2 x3 x4 x5 x6 x7 s1 s2 = some r → ag wr_worked σ0 σ → lq ls 8 [(0, some (.ref qm)), (1, some (.int x1)), (2, some (.int x2)), (3, some (.int x3)), (4, some (.int x4)), (5, some (.int x5)), (6, some (.int x6)), (7, some (.int x7))] → ZM p l e 3 s m args below meth c D cz qm wr_worked σ0 (some (.int r.1)) r.2 σ (F0 m 134 ls [.int s2, .int s1, .ref (mad qm 17)]) := by
    intro k10 hk10 σ x1 x2 x3 x4 x5 x6 x7 s1 s2 ls hF ha hl
    unfold M_worked_L134 at hF
    refine m_callSP K hl hF (fun t h => w_truth _ _ t h) cp_truth q2077 rfl rfl rfl rfl rfl dX4_worked_134 (fun t1 hF => ?_)
    refine mst_17 K hF ha rfl dX4_worked_137 (fun σ2 hF ha => ?_)
    refine g_goto (tgt := 179) K dX4_worked_138 (by decide) ?_
    refine g_iinc (i := 7) K hl dX4_worked_179 rfl lc_1 rfl rfl (fun ls hl => ?_)
    refine g_goto (tgt := 10) K dX4_worked_182 (by decide) ?_
    exact hk10 _ _ _ _ _ _ _ _ ls hF ha (lq_sub hl rfl)
  have L91 : ∀ (k10 : MS → Int32 → Int32 → Int32 → Int32 → Int32 → Int32 → Int32 → Option (Int32 × MS)) (hk10 : (∀ (σ : MS) (x1 : Int32) (x2 : Int32) (x3 : Int32) (x4 : Int32) (x5 : Int32) (x6 : Int32) (x7 : Int32) (ls : Array Slot), k10 σ x1 x2 x3 x4 x5 x6 x7 = some r → ag wr_worked σ0 σ → lq ls 8 [(0, some (.ref qm)), (1, some (.int x1)), (2, some (.int x2)), (3, some (.int x3)), (4, some (.int x4)), (5, some (.int x5)), (6, some (.int x6)), (7, some (.int x7))] → ZM p l e 3 s m args below meth c D cz qm wr_worked σ0 (some (.int r.1)) r.2 σ (F0 m 10 ls []))) (σ : MS) (x1 : Int32) (x2 : Int32) (x3 : Int32) (x4 : Int32) (x5 : Int32) (x6 : Int32) (x7 : Int32) (s1 : Int32) (s2 : Int32) (ls : Array Slot), M_worked_L91 G k10 σ x1 x2 x3 x4 x5 x6 x7 s1 s2 = some r → ag wr_worked σ0 σ → lq ls 8 [(0, some (.ref qm)), (1, some (.int x1)), (2, some (.int x2)), (3, some (.int x3)), (4, some (.int x4)), (5, some (.int x5)), (6, some (.int x6)), (7, some (.int x7))] → ZM p l e 3 s m args below meth c D cz qm wr_worked σ0 (some (.int r.1)) r.2 σ (F0 m 91 ls [.int s2, .int s1, .ref (mad qm 17)]) := by
    intro k10 hk10 σ x1 x2 x3 x4 x5 x6 x7 s1 s2 ls hF ha hl
    unfold M_worked_L91 at hF
    refine mst_17 K hF ha rfl dX4_worked_91 (fun σ1 hF ha => ?_)
    refine g_iinc (i := 6) K hl dX4_worked_92 rfl lc_1 rfl rfl (fun ls hl => ?_)
    refine g_goto (tgt := 179) K dX4_worked_95 (by decide) ?_
    refine g_iinc (i := 7) K hl dX4_worked_179 rfl lc_1 rfl rfl (fun ls hl => ?_)
    refine g_goto (tgt := 10) K dX4_worked_182 (by decide) ?_
    exact hk10 _ _ _ _ _ _ _ _ ls hF ha (lq_sub hl rfl)
  have L48 : ∀ (k10 : MS → Int32 → Int32 → Int32 → Int32 → Int32 → Int32 → Int32 → Option (Int32 × MS)) (hk10 : (∀ (σ : MS) (x1 : Int32) (x2 : Int32) (x3 : Int32) (x4 : Int32) (x5 : Int32) (x6 : Int32) (x7 : Int32) (ls : Array Slot), k10 σ x1 x2 x3 x4 x5 x6 x7 = some r → ag wr_worked σ0 σ → lq ls 8 [(0, some (.ref qm)), (1, some (.int x1)), (2, some (.int x2)), (3, some (.int x3)), (4, some (.int x4)), (5, some (.int x5)), (6, some (.int x6)), (7, some (.int x7))] → ZM p l e 3 s m args below meth c D cz qm wr_worked σ0 (some (.int r.1)) r.2 σ (F0 m 10 ls []))) (σ : MS) (x1 : Int32) (x2 : Int32) (x3 : Int32) (x4 : Int32) (x5 : Int32) (x6 : Int32) (x7 : Int32) (ls : Array Slot), M_worked_L48 G k10 σ x1 x2 x3 x4 x5 x6 x7 = some r → ag wr_worked σ0 σ → lq ls 8 [(0, some (.ref qm)), (1, some (.int x1)), (2, some (.int x2)), (3, some (.int x3)), (4, some (.int x4)), (5, some (.int x5)), (6, some (.int x6)), (7, some (.int x7))] → ZM p l e 3 s m args below meth c D cz qm wr_worked σ0 (some (.int r.1)) r.2 σ (F0 m 48 ls []) := by
    intro k10 hk10 σ x1 x2 x3 x4 x5 x6 x7 ls hF ha hl
    unfold M_worked_L48 at hF
    refine g_aload_n (i := 0) K hl dX4_worked_48 rfl rfl ?_
    refine mget_17 K dX4_worked_49 ?_
    refine g_iload (i := 6) K hl dX4_worked_52 rfl ?_
    refine g_aload_n (i := 0) K hl dX4_worked_54 rfl rfl ?_
    refine mget_13 K dX4_worked_55 ?_
    refine g_iload (i := 7) K hl dX4_worked_58 rfl ?_
    refine mld_13 K hF dX4_worked_60 (fun t1 hF => ?_)
    refine g_if_ne (tgt := 74) K hF dX4_worked_61 (by decide) (fun hF => ?_) (fun hF => ?_)
    · refine g_aload_n (i := 0) K hl dX4_worked_74 rfl rfl ?_
      refine g_aload_n (i := 0) K hl dX4_worked_75 rfl rfl ?_
      refine mget_14 K dX4_worked_76 ?_
      refine g_iload (i := 7) K hl dX4_worked_79 rfl ?_
      refine mld_14 K hF dX4_worked_81 (fun t2 hF => ?_)
      refine g_iload_n (i := 2) K hl dX4_worked_82 rfl rfl ?_
      refine g_iload_n (i := 3) K hl dX4_worked_83 rfl rfl ?_
      refine g_iload (i := 4) K hl dX4_worked_84 rfl ?_
      refine g_iload (i := 5) K hl dX4_worked_86 rfl ?_
      refine m_callVP K hl hF (fun t h => w_askOf _ _ _ _ _ _ t h) rfl cp_askOf q2073 rfl rfl rfl rfl rfl dX4_worked_88 (fun t3 hF => ?_)
      exact L91 k10 hk10 _ _ _ _ _ _ _ _ _ _ ls hF ha (lq_sub hl rfl)
    · refine g_aload_n (i := 0) K hl dX4_worked_64 rfl rfl ?_
      refine mget_14 K dX4_worked_65 ?_
      refine g_iload (i := 7) K hl dX4_worked_68 rfl ?_
      refine mld_14 K hF dX4_worked_70 (fun t4 hF => ?_)
      refine g_goto (tgt := 91) K dX4_worked_71 (by decide) ?_
      exact L91 k10 hk10 _ _ _ _ _ _ _ _ _ _ ls hF ha (lq_sub hl rfl)
  have B10 : ∀ (k10 : MS → Int32 → Int32 → Int32 → Int32 → Int32 → Int32 → Int32 → Option (Int32 × MS)) (hk10 : (∀ (σ : MS) (x1 : Int32) (x2 : Int32) (x3 : Int32) (x4 : Int32) (x5 : Int32) (x6 : Int32) (x7 : Int32) (ls : Array Slot), k10 σ x1 x2 x3 x4 x5 x6 x7 = some r → ag wr_worked σ0 σ → lq ls 8 [(0, some (.ref qm)), (1, some (.int x1)), (2, some (.int x2)), (3, some (.int x3)), (4, some (.int x4)), (5, some (.int x5)), (6, some (.int x6)), (7, some (.int x7))] → ZM p l e 3 s m args below meth c D cz qm wr_worked σ0 (some (.int r.1)) r.2 σ (F0 m 10 ls []))) (σ : MS) (x1 : Int32) (x2 : Int32) (x3 : Int32) (x4 : Int32) (x5 : Int32) (x6 : Int32) (x7 : Int32) (ls : Array Slot), M_worked_B10 G k10 σ x1 x2 x3 x4 x5 x6 x7 = some r → ag wr_worked σ0 σ → lq ls 8 [(0, some (.ref qm)), (1, some (.int x1)), (2, some (.int x2)), (3, some (.int x3)), (4, some (.int x4)), (5, some (.int x5)), (6, some (.int x6)), (7, some (.int x7))] → ZM p l e 3 s m args below meth c D cz qm wr_worked σ0 (some (.int r.1)) r.2 σ (F0 m 10 ls []) := by
    intro k10 hk10 σ x1 x2 x3 x4 x5 x6 x7 ls hF ha hl
    unfold M_worked_B10 at hF
    refine g_iload (i := 7) K hl dX4_worked_10 rfl ?_
    refine g_sipush K dX4_worked_12 ls_320 ?_
    refine g_iload_n (i := 1) K hl dX4_worked_15 rfl rfl ?_
    refine g_imul K dX4_worked_16 ?_
    refine g_aload_n (i := 0) K hl dX4_worked_17 rfl rfl ?_
    refine mget_15 K dX4_worked_18 ?_
    refine g_iload_n (i := 1) K hl dX4_worked_21 rfl rfl ?_
    refine mld_15 K hF dX4_worked_22 (fun t1 hF => ?_)
    refine g_iadd K dX4_worked_23 ?_
    refine g_icmp_ge (tgt := 185) K hF dX4_worked_24 (by decide) (fun hF => ?_) (fun hF => ?_)
    · refine g_aload_n (i := 0) K hl dX4_worked_185 rfl rfl ?_
      refine mget_17 K dX4_worked_186 ?_
      refine g_iconst K dX4_worked_189 lc_0 ?_
      refine mld_17 K hF dX4_worked_190 (fun t2 hF => ?_)
      exact m_iretW K hF ha dX4_worked_191
    · refine g_aload_n (i := 0) K hl dX4_worked_27 rfl rfl ?_
      refine mget_13 K dX4_worked_28 ?_
      refine g_iload (i := 7) K hl dX4_worked_31 rfl ?_
      refine mld_13 K hF dX4_worked_33 (fun t3 hF => ?_)
      refine g_if_eq (tgt := 48) K hF dX4_worked_34 (by decide) (fun hF => ?_) (fun hF => ?_)
      · exact L48 k10 hk10 _ _ _ _ _ _ _ _ ls hF ha (lq_sub hl rfl)
      · refine g_aload_n (i := 0) K hl dX4_worked_37 rfl rfl ?_
        refine mget_13 K dX4_worked_38 ?_
        refine g_iload (i := 7) K hl dX4_worked_41 rfl ?_
        refine mld_13 K hF dX4_worked_43 (fun t4 hF => ?_)
        refine g_iconst K dX4_worked_44 lc_1 ?_
        refine g_icmp_ne (tgt := 98) K hF dX4_worked_45 (by decide) (fun hF => ?_) (fun hF => ?_)
        · refine g_aload_n (i := 0) K hl dX4_worked_98 rfl rfl ?_
          refine mget_13 K dX4_worked_99 ?_
          refine g_iload (i := 7) K hl dX4_worked_102 rfl ?_
          refine mld_13 K hF dX4_worked_104 (fun t5 hF => ?_)
          refine g_iconst K dX4_worked_105 lc_2 ?_
          refine g_icmp_ne (tgt := 141) K hF dX4_worked_106 (by decide) (fun hF => ?_) (fun hF => ?_)
          · refine g_iinc (i := 6) K hl dX4_worked_141 rfl lc_m1 rfl rfl (fun ls hl => ?_)
            refine g_aload_n (i := 0) K hl dX4_worked_144 rfl rfl ?_
            refine mget_17 K dX4_worked_145 ?_
            refine g_iload (i := 6) K hl dX4_worked_148 rfl ?_
            refine g_iconst K dX4_worked_150 lc_1 ?_
            refine g_isub K dX4_worked_151 ?_
            refine g_aload_n (i := 0) K hl dX4_worked_152 rfl rfl ?_
            refine mget_14 K dX4_worked_153 ?_
            refine g_iload (i := 7) K hl dX4_worked_156 rfl ?_
            refine mld_14 K hF dX4_worked_158 (fun t6 hF => ?_)
            refine g_aload_n (i := 0) K hl dX4_worked_159 rfl rfl ?_
            refine mget_17 K dX4_worked_160 ?_
            refine g_iload (i := 6) K hl dX4_worked_163 rfl ?_
            refine g_iconst K dX4_worked_165 lc_1 ?_
            refine g_isub K dX4_worked_166 ?_
            refine mld_17 K hF dX4_worked_167 (fun t7 hF => ?_)
            refine g_aload_n (i := 0) K hl dX4_worked_168 rfl rfl ?_
            refine mget_17 K dX4_worked_169 ?_
            refine g_iload (i := 6) K hl dX4_worked_172 rfl ?_
            refine mld_17 K hF dX4_worked_174 (fun t8 hF => ?_)
            refine m_callSP K hl hF (fun t h => w_done _ _ _ _ t h) cp_done q2080 rfl rfl rfl rfl rfl dX4_worked_175 (fun t9 hF => ?_)
            refine mst_17 K hF ha rfl dX4_worked_178 (fun σ10 hF ha => ?_)
            refine g_iinc (i := 7) K hl dX4_worked_179 rfl lc_1 rfl rfl (fun ls hl => ?_)
            refine g_goto (tgt := 10) K dX4_worked_182 (by decide) ?_
            exact hk10 _ _ _ _ _ _ _ _ ls hF ha (lq_sub hl rfl)
          · refine g_aload_n (i := 0) K hl dX4_worked_109 rfl rfl ?_
            refine mget_17 K dX4_worked_110 ?_
            refine g_iload (i := 6) K hl dX4_worked_113 rfl ?_
            refine g_iconst K dX4_worked_115 lc_1 ?_
            refine g_isub K dX4_worked_116 ?_
            refine g_aload_n (i := 0) K hl dX4_worked_117 rfl rfl ?_
            refine mget_17 K dX4_worked_118 ?_
            refine g_iload (i := 6) K hl dX4_worked_121 rfl ?_
            refine g_iconst K dX4_worked_123 lc_1 ?_
            refine g_isub K dX4_worked_124 ?_
            refine mld_17 K hF dX4_worked_125 (fun t11 hF => ?_)
            refine g_if_ne (tgt := 133) K hF dX4_worked_126 (by decide) (fun hF => ?_) (fun hF => ?_)
            · refine g_iconst K dX4_worked_133 lc_0 ?_
              exact L134 k10 hk10 _ _ _ _ _ _ _ _ _ _ ls hF ha (lq_sub hl rfl)
            · refine g_iconst K dX4_worked_129 lc_1 ?_
              refine g_goto (tgt := 134) K dX4_worked_130 (by decide) ?_
              exact L134 k10 hk10 _ _ _ _ _ _ _ _ _ _ ls hF ha (lq_sub hl rfl)
        · exact L48 k10 hk10 _ _ _ _ _ _ _ _ ls hF ha (lq_sub hl rfl)
  have L10 : ∀  (n : Nat) (σ : MS) (x1 : Int32) (x2 : Int32) (x3 : Int32) (x4 : Int32) (x5 : Int32) (x6 : Int32) (x7 : Int32) (ls : Array Slot), M_worked_L10 G  n σ x1 x2 x3 x4 x5 x6 x7 = some r → ag wr_worked σ0 σ → lq ls 8 [(0, some (.ref qm)), (1, some (.int x1)), (2, some (.int x2)), (3, some (.int x3)), (4, some (.int x4)), (5, some (.int x5)), (6, some (.int x6)), (7, some (.int x7))] → ZM p l e 3 s m args below meth c D cz qm wr_worked σ0 (some (.int r.1)) r.2 σ (F0 m 10 ls []) := by
    intro  n
    induction n with
    | zero => intro σ x1 x2 x3 x4 x5 x6 x7 ls hF; exact absurd hF (fun h => by cases h)
    | succ n ih => intro σ x1 x2 x3 x4 x5 x6 x7 ls hF ha hl; exact B10  _ ih _ _ _ _ _ _ _ _ ls hF ha hl
  have ha : ag wr_worked σ0 σ0 := ag.rf
  unfold M_worked at hF
  refine g_iconst K dX4_worked_0 lc_0 ?_
  refine g_istore (i := 6) K hl dX4_worked_1 rfl rfl (fun ls hl => ?_)
  refine g_sipush K dX4_worked_3 ls_320 ?_
  refine g_iload_n (i := 1) K hl dX4_worked_6 rfl rfl ?_
  refine g_imul K dX4_worked_7 ?_
  refine g_istore (i := 7) K hl dX4_worked_8 rfl rfl (fun ls hl => ?_)
  exact L10  G _ _ _ _ _ _ _ _ ls hF ha (lq_sub hl rfl)

theorem cp_find : cpV yX4_find cX4_find 5 (some .int) 2 := ⟨q1958, qs88, q152, q1959, by decide +kernel⟩
set_option maxHeartbeats 4000000 in
set_option maxRecDepth 100000 in
theorem w_find {l : Launch} {D : va_G} {cz : Nat → ClassId} {qm : Nat} (G : Nat) (σ0 : MS) (a0 : Int32) (a1 : Int32) (r : Int32) (hF : M_find G σ0 a0 a1 = some r) : mMet l D cz qm yX4_find cX4_find 5 (some .int) 0 wr_find [.ref qm, .int a0, .int a1] σ0 (some (.int r)) σ0 := by
  refine m_of (by decide) rfl ?_
  intro p e s m args below meth c ls K hl
  have B5 : ∀ (k5 : Int32 → Int32 → Int32 → Int32 → Option Int32) (hk5 : (∀ (x1 : Int32) (x2 : Int32) (x3 : Int32) (x4 : Int32) (ls : Array Slot), k5 x1 x2 x3 x4 = some r → lq ls 5 [(0, some (.ref qm)), (1, some (.int x1)), (2, some (.int x2)), (3, some (.int x3)), (4, some (.int x4))] → ZM p l e 0 s m args below meth c D cz qm wr_find σ0 (some (.int r)) σ0 σ0 (F0 m 5 ls []))) (x1 : Int32) (x2 : Int32) (x3 : Int32) (x4 : Int32) (ls : Array Slot), M_find_B5 G σ0 k5 x1 x2 x3 x4 = some r → lq ls 5 [(0, some (.ref qm)), (1, some (.int x1)), (2, some (.int x2)), (3, some (.int x3)), (4, some (.int x4))] → ZM p l e 0 s m args below meth c D cz qm wr_find σ0 (some (.int r)) σ0 σ0 (F0 m 5 ls []) := by
    intro k5 hk5 x1 x2 x3 x4 ls hF hl
    unfold M_find_B5 at hF
    refine g_iload (i := 4) K hl dX4_find_5 rfl ?_
    refine g_iload_n (i := 2) K hl dX4_find_7 rfl rfl ?_
    refine g_icmp_ge (tgt := 41) K hF dX4_find_8 (by decide) (fun hF => ?_) (fun hF => ?_)
    · refine g_iload_n (i := 3) K hl dX4_find_41 rfl rfl ?_
      exact m_iretP K hF ag.rf dX4_find_42
    · refine g_aload_n (i := 0) K hl dX4_find_11 rfl rfl ?_
      refine mget_24 K dX4_find_12 ?_
      refine g_iload_n (i := 1) K hl dX4_find_15 rfl rfl ?_
      refine g_iload (i := 4) K hl dX4_find_16 rfl ?_
      refine g_iadd K dX4_find_18 ?_
      refine mld_24 K hF dX4_find_19 (fun t1 hF => ?_)
      refine g_aload_n (i := 0) K hl dX4_find_20 rfl rfl ?_
      refine mget_9 K dX4_find_21 ?_
      refine g_lcmp K dX4_find_24 ?_
      refine g_if_ne (tgt := 33) K hF dX4_find_25 (by decide) (fun hF => ?_) (fun hF => ?_)
      · refine g_iload_n (i := 3) K hl dX4_find_33 rfl rfl ?_
        refine g_istore_n (i := 3) K hl dX4_find_34 rfl rfl rfl (fun ls hl => ?_)
        refine g_iinc (i := 4) K hl dX4_find_35 rfl lc_1 rfl rfl (fun ls hl => ?_)
        refine g_goto (tgt := 5) K dX4_find_38 (by decide) ?_
        exact hk5 _ _ _ _ ls hF (lq_sub hl rfl)
      · refine g_iload (i := 4) K hl dX4_find_28 rfl ?_
        refine g_goto (tgt := 34) K dX4_find_30 (by decide) ?_
        refine g_istore_n (i := 3) K hl dX4_find_34 rfl rfl rfl (fun ls hl => ?_)
        refine g_iinc (i := 4) K hl dX4_find_35 rfl lc_1 rfl rfl (fun ls hl => ?_)
        refine g_goto (tgt := 5) K dX4_find_38 (by decide) ?_
        exact hk5 _ _ _ _ ls hF (lq_sub hl rfl)
  have L5 : ∀  (n : Nat) (x1 : Int32) (x2 : Int32) (x3 : Int32) (x4 : Int32) (ls : Array Slot), M_find_L5 G σ0  n x1 x2 x3 x4 = some r → lq ls 5 [(0, some (.ref qm)), (1, some (.int x1)), (2, some (.int x2)), (3, some (.int x3)), (4, some (.int x4))] → ZM p l e 0 s m args below meth c D cz qm wr_find σ0 (some (.int r)) σ0 σ0 (F0 m 5 ls []) := by
    intro  n
    induction n with
    | zero => intro x1 x2 x3 x4 ls hF; exact absurd hF (fun h => by cases h)
    | succ n ih => intro x1 x2 x3 x4 ls hF hl; exact B5  _ ih _ _ _ _ ls hF hl
  unfold M_find at hF
  refine g_iconst K dX4_find_0 lc_m1 ?_
  refine g_istore_n (i := 3) K hl dX4_find_1 rfl rfl rfl (fun ls hl => ?_)
  refine g_iconst K dX4_find_2 lc_0 ?_
  refine g_istore (i := 4) K hl dX4_find_3 rfl rfl (fun ls hl => ?_)
  exact L5  G _ _ _ _ ls hF (lq_sub hl rfl)
