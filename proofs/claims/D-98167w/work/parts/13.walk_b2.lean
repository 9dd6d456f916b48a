set_option maxRecDepth 100000
set_option maxHeartbeats 4000000
theorem u_X1_kinds {l : Launch} {G : z_G} {a0 : Nat} {h : z_H} {Q : z_Q} (hst : l.stackTraces = false)  (hf : z_L0 h a0 ∧ ∃ b_2, (h.P a0 4) = some b_2 ∧ z_L8 h b_2 ∧ z_Ct l G m_J2_size [.ref (b_2 + 1)] h (z_Qi (fun x_5 h_6 => Q (some (.int x_5)) h_6))) : z_Ct l G m_X1_kinds [.ref a0] h Q := by
  refine z_Ct.of (ls := [some (.ref a0)]) hst rfl (by show plainName yX1_kinds.cls = true; decide +kernel) (z_le rfl) rfl ?_
  show z_V l G m_X1_kinds (z_Fm G m_X1_kinds Q) 0 0 h 0 [some (.ref a0)] []
  refine z_aload_n (q := 1) (i := 0) (x := a0) dX1_kinds_0 rfl rfl rfl ?_
  obtain ⟨g_1, hf⟩ := hf
  obtain ⟨b_2, g_3, hf⟩ := hf
  refine z_get 0 4 (q := 4) (v := .ref b_2) rfl (z_lt rfl) (z_L0_T g_1) q510 dX1_kinds_1 rfl (z_fvR (fun _ _ _ => rfl) g_3) ?_
  obtain ⟨g_4, hf⟩ := hf
  refine z_getN 8 0 (q := 7) (v := .ref (b_2 + 1)) rfl (z_lt rfl) (z_L8_T g_4) (z_nwm q331 rfl) dX1_kinds_4 rfl (z_fvR (fun _ _ _ => rfl) (z_L8_P0 g_4)) ?_
  refine z_cVi m_J2_size [] ((b_2 + 1)) (q := 10) (rc2 := 0) (rs2 := 0) (st := []) dX1_kinds_7 rfl q1258 oV_J2_size rfl rfl ⟨z_le rfl, z_le rfl⟩ (z_le rfl) (z_rcv_of 21 rfl (z_L8_N0 g_4) rfl) rfl  rfl hf (fun x_5 h_6 hf => ?_)
  exact z_iret dX1_kinds_10 rfl hf

theorem u_X1_laws {l : Launch} {G : z_G} {a0 : Nat} {x1 : Int32} {x2 : Int32} {x3 : Int32} {h : z_H} {Q : z_Q} (hst : l.stackTraces = false)  (hf : z_L0 h a0 ∧ z_Ct l G m_X1_isKind [.ref a0, .int x1] h (z_Qi (fun x_2 h_3 => (x_2 = 0 → Q (some (.int (-1))) h_3) ∧ (¬ x_2 = 0 → z_Ct l G m_X1_in [.int x2, .int 0, .int 6] h_3 (z_Qi (fun x_4 h_5 => (x_4 = 0 → Q (some (.int (-1))) h_5) ∧ (¬ x_4 = 0 → z_Ct l G m_X1_in [.int x3, .int 0, .int 2] h_5 (z_Qi (fun x_6 h_7 => (x_6 = 0 → Q (some (.int (-1))) h_7) ∧ (¬ x_6 = 0 → z_L0 h_7 a0 ∧ z_Ct l G m_X1_firstRow [.ref a0] h_7 (z_Qi (fun x_9 h_10 => (x_9 = 0 → Q (some (.int (-1))) h_10) ∧ (¬ x_9 = 0 → z_L0 (h_10.nw (1, 8)) a0 ∧ ∃ b_12, ((h_10.nw (1, 8)).P a0 4) = some b_12 ∧ z_L8 (h_10.nw (1, 8)) b_12 ∧ z_Ct l G m_X1_copies [.ref (b_12 + 3), .ref (h_10.n)] (h_10.nw (1, 8)) (z_Qv (fun h_15 => ∃ n_16, h_15.T (h_10.n) = (1, n_16) ∧ vp_in x1 n_16 ∧ z_V l G m_X1_laws (z_Fm G m_X1_laws Q) 0 0 (h_15.sI (h_10.n) (Int32.toNatClampNeg x1) x2) 68 [some (.ref a0), none, none, some (.int x3), some (.ref (h_10.n)), some (.int 0), some (.int 0), some (.int 0), none] []))))))))))))))) : z_Ct l G m_X1_laws [.ref a0, .int x1, .int x2, .int x3] h Q := by
  refine z_Ct.of (ls := [some (.ref a0), some (.int x1), some (.int x2), some (.int x3), none, none, none, none, none]) hst rfl (by show plainName yX1_laws.cls = true; decide +kernel) (z_le rfl) rfl ?_
  show z_V l G m_X1_laws (z_Fm G m_X1_laws Q) 2 16 h 0 [some (.ref a0), some (.int x1), some (.int x2), some (.int x3), none, none, none, none, none] []
  refine z_aload_n (q := 1) (i := 0) (x := a0) dX1_laws_0 rfl rfl rfl ?_
  refine z_iload_n (q := 2) (i := 1) (x := x1) dX1_laws_1 rfl rfl rfl ?_
  obtain ⟨g_1, hf⟩ := hf
  refine z_cVi m_X1_isKind [.int x1] (a0) (q := 5) (rc2 := 2) (rs2 := 16) (st := []) dX1_laws_2 rfl q1250 oV_X1_isKind rfl rfl ⟨z_le rfl, z_le rfl⟩ (z_le rfl) (z_rcv_of 0 rfl (z_L0_T g_1) rfl) rfl  rfl hf (fun x_2 h_3 hf => ?_)
  refine z_if_eq (q := 8) (tgt := 34) dX1_laws_5 rfl rfl (fun hc => ?_) (fun hc => ?_)
  · have hf := hf.1 hc
    refine z_iconst (q := 35) (v := (-1)) dX1_laws_34 rfl rfl ?_
    exact z_iret dX1_laws_35 rfl hf
  · have hf := hf.2 hc
    refine z_iload_n (q := 9) (i := 2) (x := x2) dX1_laws_8 rfl rfl rfl ?_
    refine z_iconst (q := 10) (v := 0) dX1_laws_9 rfl rfl ?_
    refine z_bipush (q := 12) (v := 6) dX1_laws_10 (by decide) rfl ?_
    refine z_cSi m_X1_in [.int x2, .int 0, .int 6] (q := 15) (rc2 := 2) (rs2 := 16) (st := []) dX1_laws_12 rfl q1259 oS_X1_in rfl rfl ⟨z_le rfl, z_le rfl⟩ (z_le rfl) rfl  rfl hf (fun x_4 h_5 hf => ?_)
    refine z_if_eq (q := 18) (tgt := 34) dX1_laws_15 rfl rfl (fun hc => ?_) (fun hc => ?_)
    · have hf := hf.1 hc
      refine z_iconst (q := 35) (v := (-1)) dX1_laws_34 rfl rfl ?_
      exact z_iret dX1_laws_35 rfl hf
    · have hf := hf.2 hc
      refine z_iload_n (q := 19) (i := 3) (x := x3) dX1_laws_18 rfl rfl rfl ?_
      refine z_iconst (q := 20) (v := 0) dX1_laws_19 rfl rfl ?_
      refine z_iconst (q := 21) (v := 2) dX1_laws_20 rfl rfl ?_
      refine z_cSi m_X1_in [.int x3, .int 0, .int 2] (q := 24) (rc2 := 2) (rs2 := 16) (st := []) dX1_laws_21 rfl q1259 oS_X1_in rfl rfl ⟨z_le rfl, z_le rfl⟩ (z_le rfl) rfl  rfl hf (fun x_6 h_7 hf => ?_)
      refine z_if_eq (q := 27) (tgt := 34) dX1_laws_24 rfl rfl (fun hc => ?_) (fun hc => ?_)
      · have hf := hf.1 hc
        refine z_iconst (q := 35) (v := (-1)) dX1_laws_34 rfl rfl ?_
        exact z_iret dX1_laws_35 rfl hf
      · have hf := hf.2 hc
        refine z_aload_n (q := 28) (i := 0) (x := a0) dX1_laws_27 rfl rfl rfl ?_
        obtain ⟨g_8, hf⟩ := hf
        refine z_cVi m_X1_firstRow [] (a0) (q := 31) (rc2 := 1) (rs2 := 8) (st := []) dX1_laws_28 rfl q1449 oV_X1_firstRow rfl rfl ⟨z_le rfl, z_le rfl⟩ (z_le rfl) (z_rcv_of 0 rfl (z_L0_T g_8) rfl) rfl  rfl hf (fun x_9 h_10 hf => ?_)
        refine z_if_ne (q := 34) (tgt := 36) dX1_laws_31 rfl rfl (fun hc => ?_) (fun hc => ?_)
        · have hf := hf.2 hc
          refine z_bipush (q := 38) (v := 8) dX1_laws_36 (by decide) rfl ?_
          refine z_newa 1 (q := 40) (N := 8) (rc2 := 0) (rs2 := 0) (z_lt rfl) (z_lt rfl) rfl q295 (by decide) rfl (z_le rfl) dX1_laws_38 rfl rfl rfl ?_
          refine z_astore (q := 42) (i := 4) (ls2 := [some (.ref a0), some (.int x1), some (.int x2), some (.int x3), some (.ref (h_10.n)), none, none, none, none]) (x := (h_10.n)) dX1_laws_40 (z_lt rfl) rfl rfl ?_
          refine z_aload_n (q := 43) (i := 0) (x := a0) dX1_laws_42 rfl rfl rfl ?_
          obtain ⟨g_11, hf⟩ := hf
          obtain ⟨b_12, g_13, hf⟩ := hf
          refine z_get 0 4 (q := 46) (v := .ref b_12) rfl (z_lt rfl) (z_L0_T g_11) q510 dX1_laws_43 rfl (z_fvR (fun _ _ _ => rfl) g_13) ?_
          obtain ⟨g_14, hf⟩ := hf
          refine z_getN 8 1 (q := 49) (v := .ref (b_12 + 3)) rfl (z_lt rfl) (z_L8_T g_14) (z_nwm q334 rfl) dX1_laws_46 rfl (z_fvR (fun _ _ _ => rfl) (z_L8_P1 g_14)) ?_
          refine z_aload (q := 51) (i := 4) (x := (h_10.n)) dX1_laws_49 rfl rfl ?_
          refine z_cSv m_X1_copies [.ref (b_12 + 3), .ref (h_10.n)] (q := 54) (rc2 := 0) (rs2 := 0) (st := []) dX1_laws_51 rfl q1507 oS_X1_copies rfl rfl ⟨z_le rfl, z_le rfl⟩ (z_le rfl) rfl  rfl hf (fun h_15 hf => ?_)
          refine z_aload (q := 56) (i := 4) (x := (h_10.n)) dX1_laws_54 rfl rfl ?_
          refine z_iload_n (q := 57) (i := 1) (x := x1) dX1_laws_56 rfl rfl rfl ?_
          refine z_iload_n (q := 58) (i := 2) (x := x2) dX1_laws_57 rfl rfl rfl ?_
          obtain ⟨n_16, g_17, hf⟩ := hf
          obtain ⟨g_18, hf⟩ := hf
          refine z_iast (q := 59) (n := n_16) g_17 g_18 dX1_laws_58 rfl ?_
          refine z_iconst (q := 60) (v := 0) dX1_laws_59 rfl rfl ?_
          refine z_istore (q := 62) (i := 5) (ls2 := [some (.ref a0), some (.int x1), some (.int x2), some (.int x3), some (.ref (h_10.n)), some (.int 0), none, none, none]) (x := 0) dX1_laws_60 (z_lt rfl) rfl rfl ?_
          refine z_iconst (q := 63) (v := 0) dX1_laws_62 rfl rfl ?_
          refine z_istore (q := 65) (i := 6) (ls2 := [some (.ref a0), some (.int x1), some (.int x2), some (.int x3), some (.ref (h_10.n)), some (.int 0), some (.int 0), none, none]) (x := 0) dX1_laws_63 (z_lt rfl) rfl rfl ?_
          refine z_iconst (q := 66) (v := 0) dX1_laws_65 rfl rfl ?_
          refine z_istore (q := 68) (i := 7) (ls2 := [some (.ref a0), some (.int x1), some (.int x2), some (.int x3), some (.ref (h_10.n)), some (.int 0), some (.int 0), some (.int 0), none]) (x := 0) dX1_laws_66 (z_lt rfl) rfl rfl ?_
          refine z_prune [true, false, false, true, true, true, true, true, false] (ls2 := [some (.ref a0), none, none, some (.int x3), some (.ref (h_10.n)), some (.int 0), some (.int 0), some (.int 0), none]) rfl ?_
          exact hf
        · have hf := hf.1 hc
          refine z_iconst (q := 35) (v := (-1)) dX1_laws_34 rfl rfl ?_
          exact z_iret dX1_laws_35 rfl hf

theorem b_X1_laws_68 {l : Launch} {G : z_G} {rc rs : Nat} {a0 : Nat} {x3 : Int32} {a4 : Nat} {x5 : Int32} {x6 : Int32} {x7 : Int32} {h : z_H} {Q : z_Q}  (hf : z_L0 h a0 ∧ ∃ b_2, (h.P a0 4) = some b_2 ∧ z_L8 h b_2 ∧ z_Ct l G m_X10_first [.ref b_2] h (z_Qi (fun x_5 h_6 => z_L0 h_6 a0 ∧ z_Ct l G m_X1_plays [.ref a0, .int x_5, .ref a4] h_6 (z_Qv (fun h_8 => z_L0 h_8 a0 ∧ ((h_8.I (a0 + 9) 7) = 2 → ((h_8.I (a0 + 9) 7) < 2 → ∀ v_12 : Int32, v_12 = (x5 + (h_8.I (a0 + 9) 8)) → z_V l G m_X1_laws (z_Fm G m_X1_laws Q) rc rs h_8 124 [some (.ref a0), none, none, some (.int x3), some (.ref a4), some (.int v_12), some (.int (x6 + 1)), some (.int (x7 + 1)), none] []) ∧ (¬ (h_8.I (a0 + 9) 7) < 2 → z_V l G m_X1_laws (z_Fm G m_X1_laws Q) rc rs h_8 124 [some (.ref a0), none, none, some (.int x3), some (.ref a4), some (.int x5), some (.int x6), some (.int (x7 + 1)), none] [])) ∧ (¬ (h_8.I (a0 + 9) 7) = 2 → ((h_8.I (a0 + 9) 7) < 2 → ∀ v_10 : Int32, v_10 = (x5 + (h_8.I (a0 + 9) 8)) → z_V l G m_X1_laws (z_Fm G m_X1_laws Q) rc rs h_8 124 [some (.ref a0), none, none, some (.int x3), some (.ref a4), some (.int v_10), some (.int (x6 + 1)), some (.int x7), none] []) ∧ (¬ (h_8.I (a0 + 9) 7) < 2 → z_V l G m_X1_laws (z_Fm G m_X1_laws Q) rc rs h_8 124 [some (.ref a0), none, none, some (.int x3), some (.ref a4), some (.int x5), some (.int x6), some (.int x7), none] []))))))) : z_V l G m_X1_laws (z_Fm G m_X1_laws Q) rc rs h 68 [some (.ref a0), none, none, some (.int x3), some (.ref a4), some (.int x5), some (.int x6), some (.int x7), none] [] := by
  refine z_aload_n (q := 69) (i := 0) (x := a0) dX1_laws_68 rfl rfl rfl ?_
  refine z_aload_n (q := 70) (i := 0) (x := a0) dX1_laws_69 rfl rfl rfl ?_
  obtain ⟨g_1, hf⟩ := hf
  obtain ⟨b_2, g_3, hf⟩ := hf
  refine z_get 0 4 (q := 73) (v := .ref b_2) rfl (z_lt rfl) (z_L0_T g_1) q510 dX1_laws_70 rfl (z_fvR (fun _ _ _ => rfl) g_3) ?_
  obtain ⟨g_4, hf⟩ := hf
  refine z_cVi m_X10_first [] (b_2) (q := 76) (rc2 := rc) (rs2 := rs) (st := [.ref a0]) dX1_laws_73 rfl q1180 oV_X10_first rfl rfl ⟨z_le rfl, z_le rfl⟩ (z_le rfl) (z_rcv_of 8 rfl (z_L8_T g_4) rfl) rfl  rfl hf (fun x_5 h_6 hf => ?_)
  refine z_aload (q := 78) (i := 4) (x := a4) dX1_laws_76 rfl rfl ?_
  obtain ⟨g_7, hf⟩ := hf
  refine z_cVv m_X1_plays [.int x_5, .ref a4] (a0) (q := 81) (rc2 := rc) (rs2 := rs) (st := []) dX1_laws_78 rfl q1457 oV_X1_plays rfl rfl ⟨z_le rfl, z_le rfl⟩ (z_le rfl) (z_rcv_of 0 rfl (z_L0_T g_7) rfl) rfl  rfl hf (fun h_8 hf => ?_)
  refine z_aload_n (q := 82) (i := 0) (x := a0) dX1_laws_81 rfl rfl rfl ?_
  obtain ⟨g_9, hf⟩ := hf
  refine z_get 0 3 (q := 85) (v := .ref (a0 + 9)) rfl (z_lt rfl) (z_L0_T g_9) q508 dX1_laws_82 rfl (z_fvR (fun _ _ _ => rfl) (z_L0_P3 g_9)) ?_
  refine z_getN 7 7 (q := 88) (v := .int (h_8.I (a0 + 9) 7)) rfl (z_lt rfl) (z_L7_T (z_L0_N3 g_9)) (z_nwm q261 rfl) dX1_laws_85 rfl rfl ?_
  refine z_iconst (q := 89) (v := 2) dX1_laws_88 rfl rfl ?_
  refine z_icmp_ne (q := 92) (tgt := 95) dX1_laws_89 rfl rfl (fun hc => ?_) (fun hc => ?_)
  · have hf := hf.2 hc
    refine z_aload_n (q := 96) (i := 0) (x := a0) dX1_laws_95 rfl rfl rfl ?_
    refine z_get 0 3 (q := 99) (v := .ref (a0 + 9)) rfl (z_lt rfl) (z_L0_T g_9) q508 dX1_laws_96 rfl (z_fvR (fun _ _ _ => rfl) (z_L0_P3 g_9)) ?_
    refine z_getN 7 7 (q := 102) (v := .int (h_8.I (a0 + 9) 7)) rfl (z_lt rfl) (z_L7_T (z_L0_N3 g_9)) (z_nwm q261 rfl) dX1_laws_99 rfl rfl ?_
    refine z_iconst (q := 103) (v := 2) dX1_laws_102 rfl rfl ?_
    refine z_icmp_lt (q := 106) (tgt := 109) dX1_laws_103 rfl rfl (fun hc => ?_) (fun hc => ?_)
    · have hf := hf.1 hc
      refine z_iload (q := 111) (i := 5) (x := x5) dX1_laws_109 rfl rfl ?_
      refine z_aload_n (q := 112) (i := 0) (x := a0) dX1_laws_111 rfl rfl rfl ?_
      refine z_get 0 3 (q := 115) (v := .ref (a0 + 9)) rfl (z_lt rfl) (z_L0_T g_9) q508 dX1_laws_112 rfl (z_fvR (fun _ _ _ => rfl) (z_L0_P3 g_9)) ?_
      refine z_getN 7 8 (q := 118) (v := .int (h_8.I (a0 + 9) 8)) rfl (z_lt rfl) (z_L7_T (z_L0_N3 g_9)) (z_nwm q263 rfl) dX1_laws_115 rfl rfl ?_
      refine z_iadd (q := 119) dX1_laws_118 rfl ?_
      refine z_nmI (fun v_10 hv_11 => ?_)
      have hf := hf v_10 hv_11
      refine z_istore (q := 121) (i := 5) (ls2 := [some (.ref a0), none, none, some (.int x3), some (.ref a4), some (.int v_10), some (.int x6), some (.int x7), none]) (x := v_10) dX1_laws_119 (z_lt rfl) rfl rfl ?_
      refine z_iinc (q := 124) (i := 6) (x := x6) (v := (x6 + 1)) (ls2 := [some (.ref a0), none, none, some (.int x3), some (.ref a4), some (.int v_10), some (.int (x6 + 1)), some (.int x7), none]) dX1_laws_121 rfl rfl (z_lt rfl) rfl rfl ?_
      exact hf
    · have hf := hf.2 hc
      refine z_goto (q := 124) dX1_laws_106 rfl ?_
      exact hf
  · have hf := hf.1 hc
    refine z_iinc (q := 95) (i := 7) (x := x7) (v := (x7 + 1)) (ls2 := [some (.ref a0), none, none, some (.int x3), some (.ref a4), some (.int x5), some (.int x6), some (.int (x7 + 1)), none]) dX1_laws_92 rfl rfl (z_lt rfl) rfl rfl ?_
    refine z_aload_n (q := 96) (i := 0) (x := a0) dX1_laws_95 rfl rfl rfl ?_
    refine z_get 0 3 (q := 99) (v := .ref (a0 + 9)) rfl (z_lt rfl) (z_L0_T g_9) q508 dX1_laws_96 rfl (z_fvR (fun _ _ _ => rfl) (z_L0_P3 g_9)) ?_
    refine z_getN 7 7 (q := 102) (v := .int (h_8.I (a0 + 9) 7)) rfl (z_lt rfl) (z_L7_T (z_L0_N3 g_9)) (z_nwm q261 rfl) dX1_laws_99 rfl rfl ?_
    refine z_iconst (q := 103) (v := 2) dX1_laws_102 rfl rfl ?_
    refine z_icmp_lt (q := 106) (tgt := 109) dX1_laws_103 rfl rfl (fun hc => ?_) (fun hc => ?_)
    · have hf := hf.1 hc
      refine z_iload (q := 111) (i := 5) (x := x5) dX1_laws_109 rfl rfl ?_
      refine z_aload_n (q := 112) (i := 0) (x := a0) dX1_laws_111 rfl rfl rfl ?_
      refine z_get 0 3 (q := 115) (v := .ref (a0 + 9)) rfl (z_lt rfl) (z_L0_T g_9) q508 dX1_laws_112 rfl (z_fvR (fun _ _ _ => rfl) (z_L0_P3 g_9)) ?_
      refine z_getN 7 8 (q := 118) (v := .int (h_8.I (a0 + 9) 8)) rfl (z_lt rfl) (z_L7_T (z_L0_N3 g_9)) (z_nwm q263 rfl) dX1_laws_115 rfl rfl ?_
      refine z_iadd (q := 119) dX1_laws_118 rfl ?_
      refine z_nmI (fun v_12 hv_13 => ?_)
      have hf := hf v_12 hv_13
      refine z_istore (q := 121) (i := 5) (ls2 := [some (.ref a0), none, none, some (.int x3), some (.ref a4), some (.int v_12), some (.int x6), some (.int (x7 + 1)), none]) (x := v_12) dX1_laws_119 (z_lt rfl) rfl rfl ?_
      refine z_iinc (q := 124) (i := 6) (x := x6) (v := (x6 + 1)) (ls2 := [some (.ref a0), none, none, some (.int x3), some (.ref a4), some (.int v_12), some (.int (x6 + 1)), some (.int (x7 + 1)), none]) dX1_laws_121 rfl rfl (z_lt rfl) rfl rfl ?_
      exact hf
    · have hf := hf.2 hc
      refine z_goto (q := 124) dX1_laws_106 rfl ?_
      exact hf

theorem b_X1_laws_124 {l : Launch} {G : z_G} {rc rs : Nat} {a0 : Nat} {x3 : Int32} {a4 : Nat} {x5 : Int32} {x6 : Int32} {x7 : Int32} {h : z_H} {Q : z_Q}  (hf : z_L0 h a0 ∧ z_Ct l G m_X1_nextRow [.ref a0] h (z_Qi (fun x_2 h_3 => (x_2 = 0 → (x3 = 2 → Q (some (.int x7)) h_3) ∧ (¬ x3 = 2 → (x6 = 0 → (x6 = 0 → Q (some (.int x3)) h_3) ∧ (¬ x6 = 0 → (x3 = 0 → Q (some (.int (x5 / 1))) h_3) ∧ (¬ x3 = 0 → Q (some (.int (x6 / 1))) h_3))) ∧ (¬ x6 = 0 → z_Ct l G (m_X1_gcd 64) [.long (Int32.toInt64 x6), .long (Int32.toInt64 x5)] h_3 (z_Ql (fun y_4 h_5 => ∀ v_6 : Int32, v_6 = (Int64.toInt32 y_4) → (x6 = 0 → Q (some (.int x3)) h_5) ∧ (¬ x6 = 0 → (x3 = 0 → ¬ v_6 = 0 ∧ Q (some (.int (x5 / v_6))) h_5) ∧ (¬ x3 = 0 → ¬ v_6 = 0 ∧ Q (some (.int (x6 / v_6))) h_5))))))) ∧ (¬ x_2 = 0 → z_V l G m_X1_laws (z_Fm G m_X1_laws Q) rc rs h_3 68 [some (.ref a0), none, none, some (.int x3), some (.ref a4), some (.int x5), some (.int x6), some (.int x7), none] [])))) : z_V l G m_X1_laws (z_Fm G m_X1_laws Q) rc rs h 124 [some (.ref a0), none, none, some (.int x3), some (.ref a4), some (.int x5), some (.int x6), some (.int x7), none] [] := by
  refine z_aload_n (q := 125) (i := 0) (x := a0) dX1_laws_124 rfl rfl rfl ?_
  obtain ⟨g_1, hf⟩ := hf
  refine z_cVi m_X1_nextRow [] (a0) (q := 128) (rc2 := rc) (rs2 := rs) (st := []) dX1_laws_125 rfl q1465 oV_X1_nextRow rfl rfl ⟨z_le rfl, z_le rfl⟩ (z_le rfl) (z_rcv_of 0 rfl (z_L0_T g_1) rfl) rfl  rfl hf (fun x_2 h_3 hf => ?_)
  refine z_if_ne (q := 131) (tgt := 68) dX1_laws_128 rfl rfl (fun hc => ?_) (fun hc => ?_)
  · have hf := hf.2 hc
    exact hf
  · have hf := hf.1 hc
    refine z_iload_n (q := 132) (i := 3) (x := x3) dX1_laws_131 rfl rfl rfl ?_
    refine z_iconst (q := 133) (v := 2) dX1_laws_132 rfl rfl ?_
    refine z_icmp_ne (q := 136) (tgt := 139) dX1_laws_133 rfl rfl (fun hc => ?_) (fun hc => ?_)
    · have hf := hf.2 hc
      refine z_iload (q := 141) (i := 6) (x := x6) dX1_laws_139 rfl rfl ?_
      refine z_if_ne (q := 144) (tgt := 148) dX1_laws_141 rfl rfl (fun hc => ?_) (fun hc => ?_)
      · have hf := hf.2 hc
        refine z_iload (q := 150) (i := 6) (x := x6) dX1_laws_148 rfl rfl ?_
        refine z_i2l (q := 151) dX1_laws_150 rfl ?_
        refine z_iload (q := 153) (i := 5) (x := x5) dX1_laws_151 rfl rfl ?_
        refine z_i2l (q := 154) dX1_laws_153 rfl ?_
        refine z_cSl (m_X1_gcd 64) [.long (Int32.toInt64 x6), .long (Int32.toInt64 x5)] (q := 157) (rc2 := rc) (rs2 := rs) (st := []) dX1_laws_154 rfl q1508 (oS_X1_gcd _) rfl rfl (z_room_of (by first | exact z_le rfl | (simp only [z_M.d, z_M.nL, z_M.lo, m_X1_gcd, m_X1_laws]; omega)) (by first | exact z_le rfl | (simp only [z_M.d, z_M.nL, z_M.lo, m_X1_gcd, m_X1_laws]; omega))) (z_le rfl) rfl  rfl hf (fun y_4 h_5 hf => ?_)
        refine z_l2i (q := 158) dX1_laws_157 rfl ?_
        refine z_nmI (fun v_6 hv_7 => ?_)
        have hf := hf v_6 hv_7
        refine z_istore (q := 160) (i := 8) (ls2 := [some (.ref a0), none, none, some (.int x3), some (.ref a4), some (.int x5), some (.int x6), some (.int x7), some (.int v_6)]) (x := v_6) dX1_laws_158 (z_lt rfl) rfl rfl ?_
        refine z_iload (q := 162) (i := 6) (x := x6) dX1_laws_160 rfl rfl ?_
        refine z_if_ne (q := 165) (tgt := 169) dX1_laws_162 rfl rfl (fun hc => ?_) (fun hc => ?_)
        · have hf := hf.2 hc
          refine z_iload_n (q := 170) (i := 3) (x := x3) dX1_laws_169 rfl rfl rfl ?_
          refine z_if_ne (q := 173) (tgt := 181) dX1_laws_170 rfl rfl (fun hc => ?_) (fun hc => ?_)
          · have hf := hf.2 hc
            refine z_iload (q := 183) (i := 6) (x := x6) dX1_laws_181 rfl rfl ?_
            refine z_iload (q := 185) (i := 8) (x := v_6) dX1_laws_183 rfl rfl ?_
            obtain ⟨g_8, hf⟩ := hf
            refine z_idiv (q := 186) dX1_laws_185 g_8 rfl ?_
            exact z_iret dX1_laws_186 rfl hf
          · have hf := hf.1 hc
            refine z_iload (q := 175) (i := 5) (x := x5) dX1_laws_173 rfl rfl ?_
            refine z_iload (q := 177) (i := 8) (x := v_6) dX1_laws_175 rfl rfl ?_
            obtain ⟨g_9, hf⟩ := hf
            refine z_idiv (q := 178) dX1_laws_177 g_9 rfl ?_
            refine z_goto (q := 186) dX1_laws_178 rfl ?_
            exact z_iret dX1_laws_186 rfl hf
        · have hf := hf.1 hc
          refine z_iload_n (q := 166) (i := 3) (x := x3) dX1_laws_165 rfl rfl rfl ?_
          refine z_goto (q := 186) dX1_laws_166 rfl ?_
          exact z_iret dX1_laws_186 rfl hf
      · have hf := hf.1 hc
        refine z_iconst (q := 145) (v := 1) dX1_laws_144 rfl rfl ?_
        refine z_goto (q := 158) dX1_laws_145 rfl ?_
        refine z_istore (q := 160) (i := 8) (ls2 := [some (.ref a0), none, none, some (.int x3), some (.ref a4), some (.int x5), some (.int x6), some (.int x7), some (.int 1)]) (x := 1) dX1_laws_158 (z_lt rfl) rfl rfl ?_
        refine z_iload (q := 162) (i := 6) (x := x6) dX1_laws_160 rfl rfl ?_
        refine z_if_ne (q := 165) (tgt := 169) dX1_laws_162 rfl rfl (fun hc => ?_) (fun hc => ?_)
        · have hf := hf.2 hc
          refine z_iload_n (q := 170) (i := 3) (x := x3) dX1_laws_169 rfl rfl rfl ?_
          refine z_if_ne (q := 173) (tgt := 181) dX1_laws_170 rfl rfl (fun hc => ?_) (fun hc => ?_)
          · have hf := hf.2 hc
            refine z_iload (q := 183) (i := 6) (x := x6) dX1_laws_181 rfl rfl ?_
            refine z_iload (q := 185) (i := 8) (x := 1) dX1_laws_183 rfl rfl ?_
            refine z_idiv (q := 186) dX1_laws_185 (by decide) rfl ?_
            exact z_iret dX1_laws_186 rfl hf
          · have hf := hf.1 hc
            refine z_iload (q := 175) (i := 5) (x := x5) dX1_laws_173 rfl rfl ?_
            refine z_iload (q := 177) (i := 8) (x := 1) dX1_laws_175 rfl rfl ?_
            refine z_idiv (q := 178) dX1_laws_177 (by decide) rfl ?_
            refine z_goto (q := 186) dX1_laws_178 rfl ?_
            exact z_iret dX1_laws_186 rfl hf
        · have hf := hf.1 hc
          refine z_iload_n (q := 166) (i := 3) (x := x3) dX1_laws_165 rfl rfl rfl ?_
          refine z_goto (q := 186) dX1_laws_166 rfl ?_
          exact z_iret dX1_laws_186 rfl hf
    · have hf := hf.1 hc
      refine z_iload (q := 138) (i := 7) (x := x7) dX1_laws_136 rfl rfl ?_
      exact z_iret dX1_laws_138 rfl hf

theorem u_X1_leads {l : Launch} {G : z_G} {a0 : Nat} {x1 : Int32} {x2 : Int32} {h : z_H} {Q : z_Q} (hst : l.stackTraces = false)  (hf : z_Ct l G m_X1_in [.int x1, .int 1, .int 20] h (z_Qi (fun x_1 h_2 => (x_1 = 0 → Q (some (.int (-1))) h_2) ∧ (¬ x_1 = 0 → z_Ct l G m_X1_in [.int x2, .int 0, .int 3] h_2 (z_Qi (fun x_3 h_4 => (x_3 = 0 → Q (some (.int (-1))) h_4) ∧ (¬ x_3 = 0 → z_L0 h_4 a0 ∧ z_Ct l G m_X1_firstRow [.ref a0] h_4 (z_Qi (fun x_6 h_7 => (x_6 = 0 → Q (some (.int (-1))) h_7) ∧ (¬ x_6 = 0 → z_V l G m_X1_leads (z_Fm G m_X1_leads Q) 0 0 (h_7.nw (1, 4)) 32 [some (.ref a0), some (.int x1), some (.int x2), some (.ref (h_7.n)), none, none] [])))))))))) : z_Ct l G m_X1_leads [.ref a0, .int x1, .int x2] h Q := by
  refine z_Ct.of (ls := [some (.ref a0), some (.int x1), some (.int x2), none, none, none]) hst rfl (by show plainName yX1_leads.cls = true; decide +kernel) (z_le rfl) rfl ?_
  show z_V l G m_X1_leads (z_Fm G m_X1_leads Q) 2 12 h 0 [some (.ref a0), some (.int x1), some (.int x2), none, none, none] []
  refine z_iload_n (q := 1) (i := 1) (x := x1) dX1_leads_0 rfl rfl rfl ?_
  refine z_iconst (q := 2) (v := 1) dX1_leads_1 rfl rfl ?_
  refine z_bipush (q := 4) (v := 20) dX1_leads_2 (by decide) rfl ?_
  refine z_cSi m_X1_in [.int x1, .int 1, .int 20] (q := 7) (rc2 := 2) (rs2 := 12) (st := []) dX1_leads_4 rfl q1259 oS_X1_in rfl rfl ⟨z_le rfl, z_le rfl⟩ (z_le rfl) rfl  rfl hf (fun x_1 h_2 hf => ?_)
  refine z_if_eq (q := 10) (tgt := 26) dX1_leads_7 rfl rfl (fun hc => ?_) (fun hc => ?_)
  · have hf := hf.1 hc
    refine z_iconst (q := 27) (v := (-1)) dX1_leads_26 rfl rfl ?_
    exact z_iret dX1_leads_27 rfl hf
  · have hf := hf.2 hc
    refine z_iload_n (q := 11) (i := 2) (x := x2) dX1_leads_10 rfl rfl rfl ?_
    refine z_iconst (q := 12) (v := 0) dX1_leads_11 rfl rfl ?_
    refine z_iconst (q := 13) (v := 3) dX1_leads_12 rfl rfl ?_
    refine z_cSi m_X1_in [.int x2, .int 0, .int 3] (q := 16) (rc2 := 2) (rs2 := 12) (st := []) dX1_leads_13 rfl q1259 oS_X1_in rfl rfl ⟨z_le rfl, z_le rfl⟩ (z_le rfl) rfl  rfl hf (fun x_3 h_4 hf => ?_)
    refine z_if_eq (q := 19) (tgt := 26) dX1_leads_16 rfl rfl (fun hc => ?_) (fun hc => ?_)
    · have hf := hf.1 hc
      refine z_iconst (q := 27) (v := (-1)) dX1_leads_26 rfl rfl ?_
      exact z_iret dX1_leads_27 rfl hf
    · have hf := hf.2 hc
      refine z_aload_n (q := 20) (i := 0) (x := a0) dX1_leads_19 rfl rfl rfl ?_
      obtain ⟨g_5, hf⟩ := hf
      refine z_cVi m_X1_firstRow [] (a0) (q := 23) (rc2 := 1) (rs2 := 4) (st := []) dX1_leads_20 rfl q1449 oV_X1_firstRow rfl rfl ⟨z_le rfl, z_le rfl⟩ (z_le rfl) (z_rcv_of 0 rfl (z_L0_T g_5) rfl) rfl  rfl hf (fun x_6 h_7 hf => ?_)
      refine z_if_ne (q := 26) (tgt := 28) dX1_leads_23 rfl rfl (fun hc => ?_) (fun hc => ?_)
      · have hf := hf.2 hc
        refine z_iconst (q := 29) (v := 4) dX1_leads_28 rfl rfl ?_
        refine z_newa 1 (q := 31) (N := 4) (rc2 := 0) (rs2 := 0) (z_lt rfl) (z_lt rfl) rfl q295 (by decide) rfl (z_le rfl) dX1_leads_29 rfl rfl rfl ?_
        refine z_astore_n (q := 32) (i := 3) (ls2 := [some (.ref a0), some (.int x1), some (.int x2), some (.ref (h_7.n)), none, none]) (x := (h_7.n)) dX1_leads_31 rfl (z_lt rfl) rfl rfl ?_
        exact hf
      · have hf := hf.1 hc
        refine z_iconst (q := 27) (v := (-1)) dX1_leads_26 rfl rfl ?_
        exact z_iret dX1_leads_27 rfl hf

theorem b_X1_leads_32 {l : Launch} {G : z_G} {rc rs : Nat} {a0 : Nat} {x1 : Int32} {x2 : Int32} {a3 : Nat} {h : z_H} {Q : z_Q}  (hf : z_L0 h a0 ∧ ∃ b_2, (h.P a0 4) = some b_2 ∧ z_L8 h b_2 ∧ z_Ct l G m_X10_first [.ref b_2] h (z_Qi (fun x_5 h_6 => z_L0 h_6 a0 ∧ z_Ct l G m_X1_deals_2 [.ref a0, .int x_5] h_6 (z_Qv (fun h_8 => z_L0 h_8 a0 ∧ z_Ct l G m_X1_goesTo [.ref a0, .int x1] h_8 (z_Qi (fun x_10 h_11 => (x_10 = 0 → z_L0 h_11 a0 ∧ z_Ct l G m_X1_nextRow [.ref a0] h_11 (z_Qi (fun x_49 h_50 => (x_49 = 0 → ∃ n_51, h_50.T a3 = (1, n_51) ∧ vp_in x2 n_51 ∧ Q (some (.int (h_50.I a3 (Int32.toNatClampNeg x2)))) h_50) ∧ (¬ x_49 = 0 → z_V l G m_X1_leads (z_Fm G m_X1_leads Q) rc rs h_50 32 [some (.ref a0), some (.int x1), some (.int x2), some (.ref a3), none, none] [])))) ∧ (¬ x_10 = 0 → z_L0 h_11 a0 ∧ ∀ v_14 : Int32, v_14 = ((h_11.I (a0 + 36) 6) - (h_11.I (a0 + 36) 7)) → ∃ b_16, (h_11.P a0 4) = some b_16 ∧ z_L8 h_11 b_16 ∧ z_Ct l G m_X11_worth [.ref (a0 + 36), .int 0, .ref (b_16 + 3)] h_11 (z_Qi (fun x_19 h_20 => z_L0 h_20 a0 ∧ ∃ b_22, (h_20.P a0 4) = some b_22 ∧ z_L8 h_20 b_22 ∧ z_Ct l G m_X11_worth [.ref (a0 + 36), .int 1, .ref (b_22 + 3)] h_20 (z_Qi (fun x_25 h_26 => z_L0 h_26 a0 ∧ ∃ b_28, (h_26.P a0 4) = some b_28 ∧ z_L8 h_26 b_28 ∧ z_Ct l G m_X10_first [.ref b_28] h_26 (z_Qi (fun x_31 h_32 => z_L0 h_32 a0 ∧ ∃ b_34, (h_32.P a0 4) = some b_34 ∧ z_L8 h_32 b_34 ∧ z_Ct l G m_X1_plays [.ref a0, .int x_31, .ref (b_34 + 3)] h_32 (z_Qv (fun h_37 => z_L0 h_37 a0 ∧ z_Ct l G m_X1_leads_2 [.ref a0, .ref a3, .int 0, .int v_14] h_37 (z_Qv (fun h_39 => z_L0 h_39 a0 ∧ z_Ct l G m_X1_leads_2 [.ref a0, .ref a3, .int 2, .int (x_19 - x_25)] h_39 (z_Qv (fun h_41 => z_L0 h_41 a0 ∧ z_Ct l G m_X1_nextRow [.ref a0] h_41 (z_Qi (fun x_43 h_44 => (x_43 = 0 → ∃ n_45, h_44.T a3 = (1, n_45) ∧ vp_in x2 n_45 ∧ Q (some (.int (h_44.I a3 (Int32.toNatClampNeg x2)))) h_44) ∧ (¬ x_43 = 0 → z_V l G m_X1_leads (z_Fm G m_X1_leads Q) rc rs h_44 32 [some (.ref a0), some (.int x1), some (.int x2), some (.ref a3), none, none] []))))))))))))))))))))))) : z_V l G m_X1_leads (z_Fm G m_X1_leads Q) rc rs h 32 [some (.ref a0), some (.int x1), some (.int x2), some (.ref a3), none, none] [] := by
  refine z_aload_n (q := 33) (i := 0) (x := a0) dX1_leads_32 rfl rfl rfl ?_
  refine z_aload_n (q := 34) (i := 0) (x := a0) dX1_leads_33 rfl rfl rfl ?_
  obtain ⟨g_1, hf⟩ := hf
  obtain ⟨b_2, g_3, hf⟩ := hf
  refine z_get 0 4 (q := 37) (v := .ref b_2) rfl (z_lt rfl) (z_L0_T g_1) q510 dX1_leads_34 rfl (z_fvR (fun _ _ _ => rfl) g_3) ?_
  obtain ⟨g_4, hf⟩ := hf
  refine z_cVi m_X10_first [] (b_2) (q := 40) (rc2 := rc) (rs2 := rs) (st := [.ref a0]) dX1_leads_37 rfl q1180 oV_X10_first rfl rfl ⟨z_le rfl, z_le rfl⟩ (z_le rfl) (z_rcv_of 8 rfl (z_L8_T g_4) rfl) rfl  rfl hf (fun x_5 h_6 hf => ?_)
  obtain ⟨g_7, hf⟩ := hf
  refine z_cVv m_X1_deals_2 [.int x_5] (a0) (q := 43) (rc2 := rc) (rs2 := rs) (st := []) dX1_leads_40 rfl q1461 oV_X1_deals_2 rfl rfl ⟨z_le rfl, z_le rfl⟩ (z_le rfl) (z_rcv_of 0 rfl (z_L0_T g_7) rfl) rfl  rfl hf (fun h_8 hf => ?_)
  refine z_aload_n (q := 44) (i := 0) (x := a0) dX1_leads_43 rfl rfl rfl ?_
  refine z_iload_n (q := 45) (i := 1) (x := x1) dX1_leads_44 rfl rfl rfl ?_
  obtain ⟨g_9, hf⟩ := hf
  refine z_cVi m_X1_goesTo [.int x1] (a0) (q := 48) (rc2 := rc) (rs2 := rs) (st := []) dX1_leads_45 rfl q1489 oV_X1_goesTo rfl rfl ⟨z_le rfl, z_le rfl⟩ (z_le rfl) (z_rcv_of 0 rfl (z_L0_T g_9) rfl) rfl  rfl hf (fun x_10 h_11 hf => ?_)
  refine z_if_ne (q := 51) (tgt := 54) dX1_leads_48 rfl rfl (fun hc => ?_) (fun hc => ?_)
  · have hf := hf.2 hc
    refine z_aload_n (q := 55) (i := 0) (x := a0) dX1_leads_54 rfl rfl rfl ?_
    obtain ⟨g_13, hf⟩ := hf
    refine z_get 0 7 (q := 58) (v := .ref (a0 + 36)) rfl (z_lt rfl) (z_L0_T g_13) q513 dX1_leads_55 rfl (z_fvR (fun _ _ _ => rfl) (z_L0_P7 g_13)) ?_
    refine z_getN 9 6 (q := 61) (v := .int (h_11.I (a0 + 36) 6)) rfl (z_lt rfl) (z_L9_T (z_L0_N7 g_13)) (z_nwm q387 rfl) dX1_leads_58 rfl rfl ?_
    refine z_aload_n (q := 62) (i := 0) (x := a0) dX1_leads_61 rfl rfl rfl ?_
    refine z_get 0 7 (q := 65) (v := .ref (a0 + 36)) rfl (z_lt rfl) (z_L0_T g_13) q513 dX1_leads_62 rfl (z_fvR (fun _ _ _ => rfl) (z_L0_P7 g_13)) ?_
    refine z_getN 9 7 (q := 68) (v := .int (h_11.I (a0 + 36) 7)) rfl (z_lt rfl) (z_L9_T (z_L0_N7 g_13)) (z_nwm q390 rfl) dX1_leads_65 rfl rfl ?_
    refine z_isub (q := 69) dX1_leads_68 rfl ?_
    refine z_nmI (fun v_14 hv_15 => ?_)
    have hf := hf v_14 hv_15
    refine z_istore (q := 71) (i := 4) (ls2 := [some (.ref a0), some (.int x1), some (.int x2), some (.ref a3), some (.int v_14), none]) (x := v_14) dX1_leads_69 (z_lt rfl) rfl rfl ?_
    refine z_aload_n (q := 72) (i := 0) (x := a0) dX1_leads_71 rfl rfl rfl ?_
    refine z_get 0 7 (q := 75) (v := .ref (a0 + 36)) rfl (z_lt rfl) (z_L0_T g_13) q513 dX1_leads_72 rfl (z_fvR (fun _ _ _ => rfl) (z_L0_P7 g_13)) ?_
    refine z_iconst (q := 76) (v := 0) dX1_leads_75 rfl rfl ?_
    refine z_aload_n (q := 77) (i := 0) (x := a0) dX1_leads_76 rfl rfl rfl ?_
    obtain ⟨b_16, g_17, hf⟩ := hf
    refine z_get 0 4 (q := 80) (v := .ref b_16) rfl (z_lt rfl) (z_L0_T g_13) q510 dX1_leads_77 rfl (z_fvR (fun _ _ _ => rfl) g_17) ?_
    obtain ⟨g_18, hf⟩ := hf
    refine z_getN 8 1 (q := 83) (v := .ref (b_16 + 3)) rfl (z_lt rfl) (z_L8_T g_18) (z_nwm q334 rfl) dX1_leads_80 rfl (z_fvR (fun _ _ _ => rfl) (z_L8_P1 g_18)) ?_
    refine z_cVi m_X11_worth [.int 0, .ref (b_16 + 3)] ((a0 + 36)) (q := 86) (rc2 := rc) (rs2 := rs) (st := []) dX1_leads_83 rfl q1494 oV_X11_worth rfl rfl ⟨z_le rfl, z_le rfl⟩ (z_le rfl) (z_rcv_of 9 rfl (z_L9_T (z_L0_N7 g_13)) rfl) rfl  rfl hf (fun x_19 h_20 hf => ?_)
    refine z_aload_n (q := 87) (i := 0) (x := a0) dX1_leads_86 rfl rfl rfl ?_
    obtain ⟨g_21, hf⟩ := hf
    refine z_get 0 7 (q := 90) (v := .ref (a0 + 36)) rfl (z_lt rfl) (z_L0_T g_21) q513 dX1_leads_87 rfl (z_fvR (fun _ _ _ => rfl) (z_L0_P7 g_21)) ?_
    refine z_iconst (q := 91) (v := 1) dX1_leads_90 rfl rfl ?_
    refine z_aload_n (q := 92) (i := 0) (x := a0) dX1_leads_91 rfl rfl rfl ?_
    obtain ⟨b_22, g_23, hf⟩ := hf
    refine z_get 0 4 (q := 95) (v := .ref b_22) rfl (z_lt rfl) (z_L0_T g_21) q510 dX1_leads_92 rfl (z_fvR (fun _ _ _ => rfl) g_23) ?_
    obtain ⟨g_24, hf⟩ := hf
    refine z_getN 8 1 (q := 98) (v := .ref (b_22 + 3)) rfl (z_lt rfl) (z_L8_T g_24) (z_nwm q334 rfl) dX1_leads_95 rfl (z_fvR (fun _ _ _ => rfl) (z_L8_P1 g_24)) ?_
    refine z_cVi m_X11_worth [.int 1, .ref (b_22 + 3)] ((a0 + 36)) (q := 101) (rc2 := rc) (rs2 := rs) (st := [.int x_19]) dX1_leads_98 rfl q1494 oV_X11_worth rfl rfl ⟨z_le rfl, z_le rfl⟩ (z_le rfl) (z_rcv_of 9 rfl (z_L9_T (z_L0_N7 g_21)) rfl) rfl  rfl hf (fun x_25 h_26 hf => ?_)
    refine z_isub (q := 102) dX1_leads_101 rfl ?_
    refine z_istore (q := 104) (i := 5) (ls2 := [some (.ref a0), some (.int x1), some (.int x2), some (.ref a3), some (.int v_14), some (.int (x_19 - x_25))]) (x := (x_19 - x_25)) dX1_leads_102 (z_lt rfl) rfl rfl ?_
    refine z_aload_n (q := 105) (i := 0) (x := a0) dX1_leads_104 rfl rfl rfl ?_
    refine z_aload_n (q := 106) (i := 0) (x := a0) dX1_leads_105 rfl rfl rfl ?_
    obtain ⟨g_27, hf⟩ := hf
    obtain ⟨b_28, g_29, hf⟩ := hf
    refine z_get 0 4 (q := 109) (v := .ref b_28) rfl (z_lt rfl) (z_L0_T g_27) q510 dX1_leads_106 rfl (z_fvR (fun _ _ _ => rfl) g_29) ?_
    obtain ⟨g_30, hf⟩ := hf
    refine z_cVi m_X10_first [] (b_28) (q := 112) (rc2 := rc) (rs2 := rs) (st := [.ref a0]) dX1_leads_109 rfl q1180 oV_X10_first rfl rfl ⟨z_le rfl, z_le rfl⟩ (z_le rfl) (z_rcv_of 8 rfl (z_L8_T g_30) rfl) rfl  rfl hf (fun x_31 h_32 hf => ?_)
    refine z_aload_n (q := 113) (i := 0) (x := a0) dX1_leads_112 rfl rfl rfl ?_
    obtain ⟨g_33, hf⟩ := hf
    obtain ⟨b_34, g_35, hf⟩ := hf
    refine z_get 0 4 (q := 116) (v := .ref b_34) rfl (z_lt rfl) (z_L0_T g_33) q510 dX1_leads_113 rfl (z_fvR (fun _ _ _ => rfl) g_35) ?_
    obtain ⟨g_36, hf⟩ := hf
    refine z_getN 8 1 (q := 119) (v := .ref (b_34 + 3)) rfl (z_lt rfl) (z_L8_T g_36) (z_nwm q334 rfl) dX1_leads_116 rfl (z_fvR (fun _ _ _ => rfl) (z_L8_P1 g_36)) ?_
    refine z_cVv m_X1_plays [.int x_31, .ref (b_34 + 3)] (a0) (q := 122) (rc2 := rc) (rs2 := rs) (st := []) dX1_leads_119 rfl q1457 oV_X1_plays rfl rfl ⟨z_le rfl, z_le rfl⟩ (z_le rfl) (z_rcv_of 0 rfl (z_L0_T g_33) rfl) rfl  rfl hf (fun h_37 hf => ?_)
    refine z_aload_n (q := 123) (i := 0) (x := a0) dX1_leads_122 rfl rfl rfl ?_
    refine z_aload_n (q := 124) (i := 3) (x := a3) dX1_leads_123 rfl rfl rfl ?_
    refine z_iconst (q := 125) (v := 0) dX1_leads_124 rfl rfl ?_
    refine z_iload (q := 127) (i := 4) (x := v_14) dX1_leads_125 rfl rfl ?_
    obtain ⟨g_38, hf⟩ := hf
    refine z_cVv m_X1_leads_2 [.ref a3, .int 0, .int v_14] (a0) (q := 130) (rc2 := rc) (rs2 := rs) (st := []) dX1_leads_127 rfl q1499 oV_X1_leads_2 rfl rfl ⟨z_le rfl, z_le rfl⟩ (z_le rfl) (z_rcv_of 0 rfl (z_L0_T g_38) rfl) rfl  rfl hf (fun h_39 hf => ?_)
    refine z_aload_n (q := 131) (i := 0) (x := a0) dX1_leads_130 rfl rfl rfl ?_
    refine z_aload_n (q := 132) (i := 3) (x := a3) dX1_leads_131 rfl rfl rfl ?_
    refine z_iconst (q := 133) (v := 2) dX1_leads_132 rfl rfl ?_
    refine z_iload (q := 135) (i := 5) (x := (x_19 - x_25)) dX1_leads_133 rfl rfl ?_
    obtain ⟨g_40, hf⟩ := hf
    refine z_cVv m_X1_leads_2 [.ref a3, .int 2, .int (x_19 - x_25)] (a0) (q := 138) (rc2 := rc) (rs2 := rs) (st := []) dX1_leads_135 rfl q1499 oV_X1_leads_2 rfl rfl ⟨z_le rfl, z_le rfl⟩ (z_le rfl) (z_rcv_of 0 rfl (z_L0_T g_40) rfl) rfl  rfl hf (fun h_41 hf => ?_)
    refine z_aload_n (q := 139) (i := 0) (x := a0) dX1_leads_138 rfl rfl rfl ?_
    obtain ⟨g_42, hf⟩ := hf
    refine z_cVi m_X1_nextRow [] (a0) (q := 142) (rc2 := rc) (rs2 := rs) (st := []) dX1_leads_139 rfl q1465 oV_X1_nextRow rfl rfl ⟨z_le rfl, z_le rfl⟩ (z_le rfl) (z_rcv_of 0 rfl (z_L0_T g_42) rfl) rfl  rfl hf (fun x_43 h_44 hf => ?_)
    refine z_if_ne (q := 145) (tgt := 32) dX1_leads_142 rfl rfl (fun hc => ?_) (fun hc => ?_)
    · have hf := hf.2 hc
      refine z_prune [true, true, true, true, false, false] (ls2 := [some (.ref a0), some (.int x1), some (.int x2), some (.ref a3), none, none]) rfl ?_
      exact hf
    · have hf := hf.1 hc
      refine z_aload_n (q := 146) (i := 3) (x := a3) dX1_leads_145 rfl rfl rfl ?_
      refine z_iload_n (q := 147) (i := 2) (x := x2) dX1_leads_146 rfl rfl rfl ?_
      obtain ⟨n_45, g_46, hf⟩ := hf
      obtain ⟨g_47, hf⟩ := hf
      refine z_iald (q := 148) (n := n_45) g_46 g_47 dX1_leads_147 rfl ?_
      exact z_iret dX1_leads_148 rfl hf
  · have hf := hf.1 hc
    refine z_goto (q := 138) dX1_leads_51 rfl ?_
    refine z_aload_n (q := 139) (i := 0) (x := a0) dX1_leads_138 rfl rfl rfl ?_
    obtain ⟨g_48, hf⟩ := hf
    refine z_cVi m_X1_nextRow [] (a0) (q := 142) (rc2 := rc) (rs2 := rs) (st := []) dX1_leads_139 rfl q1465 oV_X1_nextRow rfl rfl ⟨z_le rfl, z_le rfl⟩ (z_le rfl) (z_rcv_of 0 rfl (z_L0_T g_48) rfl) rfl  rfl hf (fun x_49 h_50 hf => ?_)
    refine z_if_ne (q := 145) (tgt := 32) dX1_leads_142 rfl rfl (fun hc => ?_) (fun hc => ?_)
    · have hf := hf.2 hc
      exact hf
    · have hf := hf.1 hc
      refine z_aload_n (q := 146) (i := 3) (x := a3) dX1_leads_145 rfl rfl rfl ?_
      refine z_iload_n (q := 147) (i := 2) (x := x2) dX1_leads_146 rfl rfl rfl ?_
      obtain ⟨n_51, g_52, hf⟩ := hf
      obtain ⟨g_53, hf⟩ := hf
      refine z_iald (q := 148) (n := n_51) g_52 g_53 dX1_leads_147 rfl ?_
      exact z_iret dX1_leads_148 rfl hf

theorem u_X1_leads_2 {l : Launch} {G : z_G} {a0 : Nat} {a1 : Nat} {x2 : Int32} {x3 : Int32} {h : z_H} {Q : z_Q} (hst : l.stackTraces = false)  (hf : (x3 = 0 → Q none h) ∧ (¬ x3 = 0 → ∃ n_1, h.T a1 = (1, n_1) ∧ vp_in (x2 + 1) n_1 ∧ vp_in (x2 + 1) n_1 ∧ z_L0 h a0 ∧ (((h.sI a1 (Int32.toNatClampNeg (x2 + 1)) ((h.I a1 (Int32.toNatClampNeg (x2 + 1))) + 1)).I (a0 + 9) 7) = (if x3 ≤ 0 then 1 else 0) → vp_in x2 n_1 ∧ vp_in x2 n_1 ∧ Q none ((h.sI a1 (Int32.toNatClampNeg (x2 + 1)) ((h.I a1 (Int32.toNatClampNeg (x2 + 1))) + 1)).sI a1 (Int32.toNatClampNeg x2) (((h.sI a1 (Int32.toNatClampNeg (x2 + 1)) ((h.I a1 (Int32.toNatClampNeg (x2 + 1))) + 1)).I a1 (Int32.toNatClampNeg x2)) + 1))) ∧ (¬ ((h.sI a1 (Int32.toNatClampNeg (x2 + 1)) ((h.I a1 (Int32.toNatClampNeg (x2 + 1))) + 1)).I (a0 + 9) 7) = (if x3 ≤ 0 then 1 else 0) → Q none (h.sI a1 (Int32.toNatClampNeg (x2 + 1)) ((h.I a1 (Int32.toNatClampNeg (x2 + 1))) + 1))))) : z_Ct l G m_X1_leads_2 [.ref a0, .ref a1, .int x2, .int x3] h Q := by
  refine z_Ct.of (ls := [some (.ref a0), some (.ref a1), some (.int x2), some (.int x3)]) hst rfl (by show plainName yX1_leads_2.cls = true; decide +kernel) (z_le rfl) rfl ?_
  show z_V l G m_X1_leads_2 (z_Fm G m_X1_leads_2 Q) 0 0 h 0 [some (.ref a0), some (.ref a1), some (.int x2), some (.int x3)] []
  refine z_iload_n (q := 1) (i := 3) (x := x3) dX1_leads_2_0 rfl rfl rfl ?_
  refine z_if_ne (q := 4) (tgt := 5) dX1_leads_2_1 rfl rfl (fun hc => ?_) (fun hc => ?_)
  · have hf := hf.2 hc
    refine z_aload_n (q := 6) (i := 1) (x := a1) dX1_leads_2_5 rfl rfl rfl ?_
    refine z_iload_n (q := 7) (i := 2) (x := x2) dX1_leads_2_6 rfl rfl rfl ?_
    refine z_iconst (q := 8) (v := 1) dX1_leads_2_7 rfl rfl ?_
    refine z_iadd (q := 9) dX1_leads_2_8 rfl ?_
    refine z_dup2 (q := 10) dX1_leads_2_9 rfl rfl rfl ?_
    obtain ⟨n_1, g_2, hf⟩ := hf
    obtain ⟨g_3, hf⟩ := hf
    refine z_iald (q := 11) (n := n_1) g_2 g_3 dX1_leads_2_10 rfl ?_
    refine z_iconst (q := 12) (v := 1) dX1_leads_2_11 rfl rfl ?_
    refine z_iadd (q := 13) dX1_leads_2_12 rfl ?_
    obtain ⟨g_4, hf⟩ := hf
    refine z_iast (q := 14) (n := n_1) g_2 g_4 dX1_leads_2_13 rfl ?_
    refine z_aload_n (q := 15) (i := 0) (x := a0) dX1_leads_2_14 rfl rfl rfl ?_
    obtain ⟨g_5, hf⟩ := hf
    refine z_get 0 3 (q := 18) (v := .ref (a0 + 9)) rfl (z_lt rfl) (z_L0_T g_5) q508 dX1_leads_2_15 rfl (z_fvR (fun _ _ _ => rfl) (z_L0_P3 g_5)) ?_
    refine z_getN 7 7 (q := 21) (v := .int ((h.sI a1 (Int32.toNatClampNeg (x2 + 1)) ((h.I a1 (Int32.toNatClampNeg (x2 + 1))) + 1)).I (a0 + 9) 7)) rfl (z_lt rfl) (z_L7_T (z_L0_N3 g_5)) (z_nwm q261 rfl) dX1_leads_2_18 rfl rfl ?_
    refine z_iload_n (q := 22) (i := 3) (x := x3) dX1_leads_2_21 rfl rfl rfl ?_
    have hk : z_V l G m_X1_leads_2 (z_Fm G m_X1_leads_2 Q) 0 0 (h.sI a1 (Int32.toNatClampNeg (x2 + 1)) ((h.I a1 (Int32.toNatClampNeg (x2 + 1))) + 1)) 30 [some (.ref a0), some (.ref a1), some (.int x2), some (.int x3)] [.int (if x3 ≤ 0 then 1 else 0), .int ((h.sI a1 (Int32.toNatClampNeg (x2 + 1)) ((h.I a1 (Int32.toNatClampNeg (x2 + 1))) + 1)).I (a0 + 9) 7)] := by
      refine z_icmp_ne (q := 33) (tgt := 40) dX1_leads_2_30 rfl rfl (fun hc => ?_) (fun hc => ?_)
      · have hf := hf.2 hc
        exact z_vret dX1_leads_2_40 rfl hf
      · have hf := hf.1 hc
        refine z_aload_n (q := 34) (i := 1) (x := a1) dX1_leads_2_33 rfl rfl rfl ?_
        refine z_iload_n (q := 35) (i := 2) (x := x2) dX1_leads_2_34 rfl rfl rfl ?_
        refine z_dup2 (q := 36) dX1_leads_2_35 rfl rfl rfl ?_
        obtain ⟨g_6, hf⟩ := hf
        refine z_iald (q := 37) (n := n_1) g_2 g_6 dX1_leads_2_36 rfl ?_
        refine z_iconst (q := 38) (v := 1) dX1_leads_2_37 rfl rfl ?_
        refine z_iadd (q := 39) dX1_leads_2_38 rfl ?_
        obtain ⟨g_7, hf⟩ := hf
        refine z_iast (q := 40) (n := n_1) g_2 g_7 dX1_leads_2_39 rfl ?_
        exact z_vret dX1_leads_2_40 rfl hf
    refine z_if_le (q := 25) (tgt := 29) dX1_leads_2_22 rfl rfl (fun hc => ?_) (fun hc => ?_)
    · have hk := (z_ite hk).1 hc
      refine z_iconst (q := 30) (v := 1) dX1_leads_2_29 rfl rfl ?_
      exact hk
    · have hk := (z_ite hk).2 hc
      refine z_iconst (q := 26) (v := 0) dX1_leads_2_25 rfl rfl ?_
      refine z_goto (q := 30) dX1_leads_2_26 rfl ?_
      exact hk
  · have hf := hf.1 hc
    exact z_vret dX1_leads_2_4 rfl hf

theorem u_X1_looked {l : Launch} {G : z_G} {a0 : Nat} {x1 : Int32} {x2 : Int32} {x3 : Int32} {h : z_H} {Q : z_Q} (hst : l.stackTraces = false)  (hf : z_Ct l G m_X1_in [.int x1, .int 0, .int 9999] h (z_Qi (fun x_1 h_2 => (x_1 = 0 → Q (some (.int (-1))) h_2) ∧ (¬ x_1 = 0 → z_Ct l G m_X1_in [.int x2, .int 1, .int 200] h_2 (z_Qi (fun x_3 h_4 => (x_3 = 0 → Q (some (.int (-1))) h_4) ∧ (¬ x_3 = 0 → z_L0 h_4 a0 ∧ ∃ b_6, (h_4.P a0 4) = some b_6 ∧ z_L8 h_4 b_6 ∧ z_Ct l G m_X10_cards [.ref b_6] h_4 (z_Qi (fun x_9 h_10 => z_Ct l G m_X1_in [.int x3, .int (-1), .int (x_9 - 1)] h_10 (z_Qi (fun x_11 h_12 => (x_11 = 0 → Q (some (.int (-1))) h_12) ∧ (¬ x_11 = 0 → z_L0 h_12 a0 ∧ ∃ b_14, (h_12.P a0 4) = some b_14 ∧ z_L8 h_12 b_14 ∧ z_Ct l G m_X10_cards [.ref b_14] h_12 (z_Qi (fun x_17 h_18 => (x_17 = 0 → Q (some (.int (-1))) h_18) ∧ (¬ x_17 = 0 → z_L0 h_18 a0 ∧ z_V l G m_X1_looked (z_Fm G m_X1_looked Q) 0 0 (h_18.sL a0 21 (Int32.toInt64 x1)) 60 [some (.ref a0), none, some (.int x2), some (.int x3), some (.int 0)] []))))))))))))))) : z_Ct l G m_X1_looked [.ref a0, .int x1, .int x2, .int x3] h Q := by
  refine z_Ct.of (ls := [some (.ref a0), some (.int x1), some (.int x2), some (.int x3), none]) hst rfl (by show plainName yX1_looked.cls = true; decide +kernel) (z_le rfl) rfl ?_
  show z_V l G m_X1_looked (z_Fm G m_X1_looked Q) 0 0 h 0 [some (.ref a0), some (.int x1), some (.int x2), some (.int x3), none] []
  refine z_iload_n (q := 1) (i := 1) (x := x1) dX1_looked_0 rfl rfl rfl ?_
  refine z_iconst (q := 2) (v := 0) dX1_looked_1 rfl rfl ?_
  refine z_sipush (q := 5) (v := 9999) dX1_looked_2 (by decide) rfl ?_
  refine z_cSi m_X1_in [.int x1, .int 0, .int 9999] (q := 8) (rc2 := 0) (rs2 := 0) (st := []) dX1_looked_5 rfl q1259 oS_X1_in rfl rfl ⟨z_le rfl, z_le rfl⟩ (z_le rfl) rfl  rfl hf (fun x_1 h_2 hf => ?_)
  refine z_if_eq (q := 11) (tgt := 49) dX1_looked_8 rfl rfl (fun hc => ?_) (fun hc => ?_)
  · have hf := hf.1 hc
    refine z_iconst (q := 50) (v := (-1)) dX1_looked_49 rfl rfl ?_
    exact z_iret dX1_looked_50 rfl hf
  · have hf := hf.2 hc
    refine z_iload_n (q := 12) (i := 2) (x := x2) dX1_looked_11 rfl rfl rfl ?_
    refine z_iconst (q := 13) (v := 1) dX1_looked_12 rfl rfl ?_
    refine z_sipush (q := 16) (v := 200) dX1_looked_13 (by decide) rfl ?_
    refine z_cSi m_X1_in [.int x2, .int 1, .int 200] (q := 19) (rc2 := 0) (rs2 := 0) (st := []) dX1_looked_16 rfl q1259 oS_X1_in rfl rfl ⟨z_le rfl, z_le rfl⟩ (z_le rfl) rfl  rfl hf (fun x_3 h_4 hf => ?_)
    refine z_if_eq (q := 22) (tgt := 49) dX1_looked_19 rfl rfl (fun hc => ?_) (fun hc => ?_)
    · have hf := hf.1 hc
      refine z_iconst (q := 50) (v := (-1)) dX1_looked_49 rfl rfl ?_
      exact z_iret dX1_looked_50 rfl hf
    · have hf := hf.2 hc
      refine z_iload_n (q := 23) (i := 3) (x := x3) dX1_looked_22 rfl rfl rfl ?_
      refine z_iconst (q := 24) (v := (-1)) dX1_looked_23 rfl rfl ?_
      refine z_aload_n (q := 25) (i := 0) (x := a0) dX1_looked_24 rfl rfl rfl ?_
      obtain ⟨g_5, hf⟩ := hf
      obtain ⟨b_6, g_7, hf⟩ := hf
      refine z_get 0 4 (q := 28) (v := .ref b_6) rfl (z_lt rfl) (z_L0_T g_5) q510 dX1_looked_25 rfl (z_fvR (fun _ _ _ => rfl) g_7) ?_
      obtain ⟨g_8, hf⟩ := hf
      refine z_cVi m_X10_cards [] (b_6) (q := 31) (rc2 := 0) (rs2 := 0) (st := [.int (-1), .int x3]) dX1_looked_28 rfl q1621 oV_X10_cards rfl rfl ⟨z_le rfl, z_le rfl⟩ (z_le rfl) (z_rcv_of 8 rfl (z_L8_T g_8) rfl) rfl  rfl hf (fun x_9 h_10 hf => ?_)
      refine z_iconst (q := 32) (v := 1) dX1_looked_31 rfl rfl ?_
      refine z_isub (q := 33) dX1_looked_32 rfl ?_
      refine z_cSi m_X1_in [.int x3, .int (-1), .int (x_9 - 1)] (q := 36) (rc2 := 0) (rs2 := 0) (st := []) dX1_looked_33 rfl q1259 oS_X1_in rfl rfl ⟨z_le rfl, z_le rfl⟩ (z_le rfl) rfl  rfl hf (fun x_11 h_12 hf => ?_)
      refine z_if_eq (q := 39) (tgt := 49) dX1_looked_36 rfl rfl (fun hc => ?_) (fun hc => ?_)
      · have hf := hf.1 hc
        refine z_iconst (q := 50) (v := (-1)) dX1_looked_49 rfl rfl ?_
        exact z_iret dX1_looked_50 rfl hf
      · have hf := hf.2 hc
        refine z_aload_n (q := 40) (i := 0) (x := a0) dX1_looked_39 rfl rfl rfl ?_
        obtain ⟨g_13, hf⟩ := hf
        obtain ⟨b_14, g_15, hf⟩ := hf
        refine z_get 0 4 (q := 43) (v := .ref b_14) rfl (z_lt rfl) (z_L0_T g_13) q510 dX1_looked_40 rfl (z_fvR (fun _ _ _ => rfl) g_15) ?_
        obtain ⟨g_16, hf⟩ := hf
        refine z_cVi m_X10_cards [] (b_14) (q := 46) (rc2 := 0) (rs2 := 0) (st := []) dX1_looked_43 rfl q1621 oV_X10_cards rfl rfl ⟨z_le rfl, z_le rfl⟩ (z_le rfl) (z_rcv_of 8 rfl (z_L8_T g_16) rfl) rfl  rfl hf (fun x_17 h_18 hf => ?_)
        refine z_if_ne (q := 49) (tgt := 51) dX1_looked_46 rfl rfl (fun hc => ?_) (fun hc => ?_)
        · have hf := hf.2 hc
          refine z_aload_n (q := 52) (i := 0) (x := a0) dX1_looked_51 rfl rfl rfl ?_
          refine z_iload_n (q := 53) (i := 1) (x := x1) dX1_looked_52 rfl rfl rfl ?_
          refine z_i2l (q := 54) dX1_looked_53 rfl ?_
          obtain ⟨g_19, hf⟩ := hf
          refine z_putL 0 21 (q := 57) (x := (Int32.toInt64 x1)) (v := .long (Int32.toInt64 x1)) rfl (z_lt rfl) (z_L0_T g_19) q527 rfl dX1_looked_54 rfl rfl rfl rfl (fun _ _ _ => rfl) ?_
          refine z_iconst (q := 58) (v := 0) dX1_looked_57 rfl rfl ?_
          refine z_istore (q := 60) (i := 4) (ls2 := [some (.ref a0), some (.int x1), some (.int x2), some (.int x3), some (.int 0)]) (x := 0) dX1_looked_58 (z_lt rfl) rfl rfl ?_
          refine z_prune [true, false, true, true, true] (ls2 := [some (.ref a0), none, some (.int x2), some (.int x3), some (.int 0)]) rfl ?_
          exact hf
        · have hf := hf.1 hc
          refine z_iconst (q := 50) (v := (-1)) dX1_looked_49 rfl rfl ?_
          exact z_iret dX1_looked_50 rfl hf

theorem b_X1_looked_60 {l : Launch} {G : z_G} {a0 : Nat} {x2 : Int32} {x3 : Int32} {x4 : Int32} {h : z_H} {Q : z_Q}  (hf : (x2 ≤ x4 → Q (some (.int (-1))) h) ∧ (¬ x2 ≤ x4 → z_L0 h a0 ∧ z_Ct l G m_X1_shuffles [.ref a0] h (z_Qv (fun h_2 => z_L0 h_2 a0 ∧ ∃ b_4, (h_2.P a0 4) = some b_4 ∧ z_L8 h_2 b_4 ∧ z_Ct l G m_X10_first [.ref b_4] h_2 (z_Qi (fun x_7 h_8 => z_L0 h_8 a0 ∧ ∃ b_10, (h_8.P a0 4) = some b_10 ∧ z_L8 h_8 b_10 ∧ z_Ct l G m_X1_plays [.ref a0, .int x_7, .ref (b_10 + 3)] h_8 (z_Qv (fun h_13 => z_L0 h_13 a0 ∧ ((h_13.I (a0 + 9) 7) = 2 → ((x3 = (-1) → True) ∧ (¬ x3 = (-1) → vp_in x3 24 ∧ True)) ∧ Q (some (.int (if x3 = (-1) then x4 else (h_13.I (a0 + 55) (Int32.toNatClampNeg x3))))) h_13) ∧ (¬ (h_13.I (a0 + 9) 7) = 2 → z_V l G m_X1_looked (z_Fm G m_X1_looked Q) 0 0 h_13 60 [some (.ref a0), none, some (.int x2), some (.int x3), some (.int (x4 + 1))] []))))))))) : z_V l G m_X1_looked (z_Fm G m_X1_looked Q) 0 0 h 60 [some (.ref a0), none, some (.int x2), some (.int x3), some (.int x4)] [] := by
  refine z_iload (q := 62) (i := 4) (x := x4) dX1_looked_60 rfl rfl ?_
  refine z_iload_n (q := 63) (i := 2) (x := x2) dX1_looked_62 rfl rfl rfl ?_
  refine z_icmp_ge (q := 66) (tgt := 122) dX1_looked_63 rfl rfl (fun hc => ?_) (fun hc => ?_)
  · have hf := hf.1 hc
    refine z_iconst (q := 123) (v := (-1)) dX1_looked_122 rfl rfl ?_
    exact z_iret dX1_looked_123 rfl hf
  · have hf := hf.2 hc
    refine z_aload_n (q := 67) (i := 0) (x := a0) dX1_looked_66 rfl rfl rfl ?_
    obtain ⟨g_1, hf⟩ := hf
    refine z_cVv m_X1_shuffles [] (a0) (q := 70) (rc2 := 0) (rs2 := 0) (st := []) dX1_looked_67 rfl q1622 oV_X1_shuffles rfl rfl ⟨z_le rfl, z_le rfl⟩ (z_le rfl) (z_rcv_of 0 rfl (z_L0_T g_1) rfl) rfl  rfl hf (fun h_2 hf => ?_)
    refine z_aload_n (q := 71) (i := 0) (x := a0) dX1_looked_70 rfl rfl rfl ?_
    refine z_aload_n (q := 72) (i := 0) (x := a0) dX1_looked_71 rfl rfl rfl ?_
    obtain ⟨g_3, hf⟩ := hf
    obtain ⟨b_4, g_5, hf⟩ := hf
    refine z_get 0 4 (q := 75) (v := .ref b_4) rfl (z_lt rfl) (z_L0_T g_3) q510 dX1_looked_72 rfl (z_fvR (fun _ _ _ => rfl) g_5) ?_
    obtain ⟨g_6, hf⟩ := hf
    refine z_cVi m_X10_first [] (b_4) (q := 78) (rc2 := 0) (rs2 := 0) (st := [.ref a0]) dX1_looked_75 rfl q1180 oV_X10_first rfl rfl ⟨z_le rfl, z_le rfl⟩ (z_le rfl) (z_rcv_of 8 rfl (z_L8_T g_6) rfl) rfl  rfl hf (fun x_7 h_8 hf => ?_)
    refine z_aload_n (q := 79) (i := 0) (x := a0) dX1_looked_78 rfl rfl rfl ?_
    obtain ⟨g_9, hf⟩ := hf
    obtain ⟨b_10, g_11, hf⟩ := hf
    refine z_get 0 4 (q := 82) (v := .ref b_10) rfl (z_lt rfl) (z_L0_T g_9) q510 dX1_looked_79 rfl (z_fvR (fun _ _ _ => rfl) g_11) ?_
    obtain ⟨g_12, hf⟩ := hf
    refine z_getN 8 1 (q := 85) (v := .ref (b_10 + 3)) rfl (z_lt rfl) (z_L8_T g_12) (z_nwm q334 rfl) dX1_looked_82 rfl (z_fvR (fun _ _ _ => rfl) (z_L8_P1 g_12)) ?_
    refine z_cVv m_X1_plays [.int x_7, .ref (b_10 + 3)] (a0) (q := 88) (rc2 := 0) (rs2 := 0) (st := []) dX1_looked_85 rfl q1457 oV_X1_plays rfl rfl ⟨z_le rfl, z_le rfl⟩ (z_le rfl) (z_rcv_of 0 rfl (z_L0_T g_9) rfl) rfl  rfl hf (fun h_13 hf => ?_)
    refine z_aload_n (q := 89) (i := 0) (x := a0) dX1_looked_88 rfl rfl rfl ?_
    obtain ⟨g_14, hf⟩ := hf
    refine z_get 0 3 (q := 92) (v := .ref (a0 + 9)) rfl (z_lt rfl) (z_L0_T g_14) q508 dX1_looked_89 rfl (z_fvR (fun _ _ _ => rfl) (z_L0_P3 g_14)) ?_
    refine z_getN 7 7 (q := 95) (v := .int (h_13.I (a0 + 9) 7)) rfl (z_lt rfl) (z_L7_T (z_L0_N3 g_14)) (z_nwm q261 rfl) dX1_looked_92 rfl rfl ?_
    refine z_iconst (q := 96) (v := 2) dX1_looked_95 rfl rfl ?_
    refine z_icmp_ne (q := 99) (tgt := 116) dX1_looked_96 rfl rfl (fun hc => ?_) (fun hc => ?_)
    · have hf := hf.2 hc
      refine z_iinc (q := 119) (i := 4) (x := x4) (v := (x4 + 1)) (ls2 := [some (.ref a0), none, some (.int x2), some (.int x3), some (.int (x4 + 1))]) dX1_looked_116 rfl rfl (z_lt rfl) rfl rfl ?_
      refine z_goto (q := 60) dX1_looked_119 rfl ?_
      exact hf
    · have hf := hf.1 hc
      refine z_iload_n (q := 100) (i := 3) (x := x3) dX1_looked_99 rfl rfl rfl ?_
      refine z_iconst (q := 101) (v := (-1)) dX1_looked_100 rfl rfl ?_
      obtain ⟨hsc, hf⟩ := hf
      have hk : z_V l G m_X1_looked (z_Fm G m_X1_looked Q) 0 0 h_13 115 [some (.ref a0), none, some (.int x2), some (.int x3), some (.int x4)] [.int (if x3 = (-1) then x4 else (h_13.I (a0 + 55) (Int32.toNatClampNeg x3)))] := by
        exact z_iret dX1_looked_115 rfl hf
      refine z_icmp_ne (q := 104) (tgt := 109) dX1_looked_101 rfl rfl (fun hc => ?_) (fun hc => ?_)
      · have hk := (z_ite hk).2 hc
        have hsc := hsc.2 hc
        obtain ⟨g_15, hsc⟩ := hsc
        refine z_aload_n (q := 110) (i := 0) (x := a0) dX1_looked_109 rfl rfl rfl ?_
        refine z_get 0 15 (q := 113) (v := .ref (a0 + 55)) rfl (z_lt rfl) (z_L0_T g_14) q521 dX1_looked_110 rfl (z_fvR (fun _ _ _ => rfl) (z_L0_P15 g_14)) ?_
        refine z_iload_n (q := 114) (i := 3) (x := x3) dX1_looked_113 rfl rfl rfl ?_
        refine z_iald (q := 115) (n := 24) (z_L0_A15 g_14) g_15 dX1_looked_114 rfl ?_
        exact hk
      · have hk := (z_ite hk).1 hc
        have hsc := hsc.1 hc
        refine z_iload (q := 106) (i := 4) (x := x4) dX1_looked_104 rfl rfl ?_
        refine z_goto (q := 115) dX1_looked_106 rfl ?_
        exact hk

theorem u_X1_mark {l : Launch} {G : z_G} {a0 : Nat} {x1 : Int32} {x2 : Int32} {h : z_H} {Q : z_Q} (hst : l.stackTraces = false)  (hf : z_Ct l G m_X1_in [.int x1, .int 0, .int 3] h (z_Qi (fun x_1 h_2 => (x_1 = 0 → Q (some (.int 0)) h_2) ∧ (¬ x_1 = 0 → (x2 = 0 → z_L0 h_2 a0 ∧ vp_in x1 4 ∧ ((h_2.P (a0 + 59) (Int32.toNatClampNeg x1)) = none → z_Ct l G m_X23_init [.ref (h_2.n)] (h_2.nw (30, 0)) (z_Qv (fun h_7 => ∃ n_8, h_7.T (a0 + 59) = (8, n_8) ∧ vp_in x1 n_8 ∧ z_L20 h_7 (h_2.n) ∧ z_V l G m_X1_mark (z_Fm G m_X1_mark Q) 96 6144 (h_7.sP (a0 + 59) (Int32.toNatClampNeg x1) (some (h_2.n))) 46 [some (.ref a0), some (.int x1), some (.int x2), none] []))) ∧ (∀ b_5, (h_2.P (a0 + 59) (Int32.toNatClampNeg x1)) = some b_5 → z_V l G m_X1_mark (z_Fm G m_X1_mark Q) 114 6586 h_2 46 [some (.ref a0), some (.int x1), some (.int x2), none] [])) ∧ (¬ x2 = 0 → z_L0 h_2 a0 ∧ vp_in x1 4 ∧ ((h_2.P (a0 + 59) (Int32.toNatClampNeg x1)) = none → Q (some (.int 0)) h_2) ∧ (∀ b_14, (h_2.P (a0 + 59) (Int32.toNatClampNeg x1)) = some b_14 → vp_in x1 4 ∧ z_V l G m_X1_mark (z_Fm G m_X1_mark Q) 114 6586 h_2 46 [some (.ref a0), some (.int x1), some (.int x2), none] [])))))) : z_Ct l G m_X1_mark [.ref a0, .int x1, .int x2] h Q := by
  refine z_Ct.of (ls := [some (.ref a0), some (.int x1), some (.int x2), none]) hst rfl (by show plainName yX1_mark.cls = true; decide +kernel) (z_le rfl) rfl ?_
  show z_V l G m_X1_mark (z_Fm G m_X1_mark Q) 114 6586 h 0 [some (.ref a0), some (.int x1), some (.int x2), none] []
  refine z_iload_n (q := 1) (i := 1) (x := x1) dX1_mark_0 rfl rfl rfl ?_
  refine z_iconst (q := 2) (v := 0) dX1_mark_1 rfl rfl ?_
  refine z_iconst (q := 3) (v := 3) dX1_mark_2 rfl rfl ?_
  refine z_cSi m_X1_in [.int x1, .int 0, .int 3] (q := 6) (rc2 := 114) (rs2 := 6586) (st := []) dX1_mark_3 rfl q1259 oS_X1_in rfl rfl ⟨z_le rfl, z_le rfl⟩ (z_le rfl) rfl  rfl hf (fun x_1 h_2 hf => ?_)
  refine z_if_eq (q := 9) (tgt := 22) dX1_mark_6 rfl rfl (fun hc => ?_) (fun hc => ?_)
  · have hf := hf.1 hc
    refine z_iconst (q := 23) (v := 0) dX1_mark_22 rfl rfl ?_
    exact z_zret dX1_mark_23 rfl (z_nb01 z_b0) hf
  · have hf := hf.2 hc
    refine z_iload_n (q := 10) (i := 2) (x := x2) dX1_mark_9 rfl rfl rfl ?_
    refine z_if_eq (q := 13) (tgt := 24) dX1_mark_10 rfl rfl (fun hc => ?_) (fun hc => ?_)
    · have hf := hf.1 hc
      refine z_aload_n (q := 25) (i := 0) (x := a0) dX1_mark_24 rfl rfl rfl ?_
      obtain ⟨g_3, hf⟩ := hf
      refine z_get 0 22 (q := 28) (v := .ref (a0 + 59)) rfl (z_lt rfl) (z_L0_T g_3) q528 dX1_mark_25 rfl (z_fvR (fun _ _ _ => rfl) (z_L0_P22 g_3)) ?_
      refine z_iload_n (q := 29) (i := 1) (x := x1) dX1_mark_28 rfl rfl rfl ?_
      obtain ⟨g_4, hf⟩ := hf
      refine z_aald (q := 30) (n := 4) (v := va_rf (h_2.P (a0 + 59) (Int32.toNatClampNeg x1))) (z_L0_A22 g_3) (by decide) g_4 dX1_mark_29 rfl rfl ?_
      rcases z_nn (h_2.P (a0 + 59) (Int32.toNatClampNeg x1)) with hn | ⟨b_5, g_6⟩
      · have hf := hf.1 hn
        refine z_topq hn ?_
        refine z_ifnonnullN (q := 33) dX1_mark_30 rfl ?_
        refine z_aload_n (q := 34) (i := 0) (x := a0) dX1_mark_33 rfl rfl rfl ?_
        refine z_get 0 22 (q := 37) (v := .ref (a0 + 59)) rfl (z_lt rfl) (z_L0_T g_3) q528 dX1_mark_34 rfl (z_fvR (fun _ _ _ => rfl) (z_L0_P22 g_3)) ?_
        refine z_iload_n (q := 38) (i := 1) (x := x1) dX1_mark_37 rfl rfl rfl ?_
        refine z_new 20 (q := 41) (rc2 := 113) (rs2 := 6582) rfl q494 q1646 q163 dX1_mark_38 rfl rfl rfl ?_
        refine z_dup (q := 42) dX1_mark_41 rfl rfl ?_
        refine z_cINv m_X23_init [] ((h_2.n)) (q := 45) (rc2 := 96) (rs2 := 6144) (st := [.ref (h_2.n), .int x1, .ref (a0 + 59)]) dX1_mark_42 rfl (z_nwm q1647 rfl) oI_X23_init rfl rfl ⟨z_le rfl, z_le rfl⟩ (z_le rfl) rfl  rfl hf (fun h_7 hf => ?_)
        obtain ⟨n_8, g_9, hf⟩ := hf
        obtain ⟨g_10, hf⟩ := hf
        obtain ⟨g_11, hf⟩ := hf
        refine z_aast (q := 46) (c := 20) (n := n_8) g_9 (by decide) (z_L20_T g_11) ⟨_, rfl, _, rfl, Or.inl rfl⟩ g_10 dX1_mark_45 rfl ?_
        exact hf
      · have hf := hf.2 b_5 g_6
        refine z_topq g_6 ?_
        refine z_ifnonnull (q := 46) dX1_mark_30 rfl ?_
        exact hf
    · have hf := hf.2 hc
      refine z_aload_n (q := 14) (i := 0) (x := a0) dX1_mark_13 rfl rfl rfl ?_
      obtain ⟨g_12, hf⟩ := hf
      refine z_get 0 22 (q := 17) (v := .ref (a0 + 59)) rfl (z_lt rfl) (z_L0_T g_12) q528 dX1_mark_14 rfl (z_fvR (fun _ _ _ => rfl) (z_L0_P22 g_12)) ?_
      refine z_iload_n (q := 18) (i := 1) (x := x1) dX1_mark_17 rfl rfl rfl ?_
      obtain ⟨g_13, hf⟩ := hf
      refine z_aald (q := 19) (n := 4) (v := va_rf (h_2.P (a0 + 59) (Int32.toNatClampNeg x1))) (z_L0_A22 g_12) (by decide) g_13 dX1_mark_18 rfl rfl ?_
      rcases z_nn (h_2.P (a0 + 59) (Int32.toNatClampNeg x1)) with hn | ⟨b_14, g_15⟩
      · have hf := hf.1 hn
        refine z_topq hn ?_
        refine z_ifnonnullN (q := 22) dX1_mark_19 rfl ?_
        refine z_iconst (q := 23) (v := 0) dX1_mark_22 rfl rfl ?_
        exact z_zret dX1_mark_23 rfl (z_nb01 z_b0) hf
      · have hf := hf.2 b_14 g_15
        refine z_topq g_15 ?_
        refine z_ifnonnull (q := 24) dX1_mark_19 rfl ?_
        refine z_aload_n (q := 25) (i := 0) (x := a0) dX1_mark_24 rfl rfl rfl ?_
        refine z_get 0 22 (q := 28) (v := .ref (a0 + 59)) rfl (z_lt rfl) (z_L0_T g_12) q528 dX1_mark_25 rfl (z_fvR (fun _ _ _ => rfl) (z_L0_P22 g_12)) ?_
        refine z_iload_n (q := 29) (i := 1) (x := x1) dX1_mark_28 rfl rfl rfl ?_
        obtain ⟨g_16, hf⟩ := hf
        refine z_aald (q := 30) (n := 4) (v := .ref b_14) (z_L0_A22 g_12) (by decide) g_16 dX1_mark_29 rfl (z_rfR g_15) ?_
        refine z_ifnonnull (q := 46) dX1_mark_30 rfl ?_
        exact hf

theorem b_X1_mark_46 {l : Launch} {G : z_G} {rc rs : Nat} {a0 : Nat} {x1 : Int32} {x2 : Int32} {h : z_H} {Q : z_Q}  (hf : z_L0 h a0 ∧ vp_in x1 4 ∧ ∃ b_3, (h.P (a0 + 59) (Int32.toNatClampNeg x1)) = some b_3 ∧ (x2 = 0 → z_L20 h b_3 ∧ ∃ rc_7, rc = rc_7 + 48 ∧ ∃ rs_9, rs = rs_9 + 3072 ∧ z_Ct l G m_X11_beWhole [.ref (b_3 + 1), .ref (a0 + 23)] h (z_Qv (fun h_11 => z_L0 h_11 a0 ∧ z_L20 h_11 b_3 ∧ z_Ct l G m_X1_deals [.ref (a0 + 49), .ref (b_3 + 14)] h_11 (z_Qv (fun h_14 => z_L0 h_14 a0 ∧ z_L20 h_14 b_3 ∧ z_Ct l G m_X1_deals [.ref (a0 + 51), .ref (b_3 + 16)] h_14 (z_Qv (fun h_17 => z_L0 h_17 a0 ∧ z_L20 h_17 b_3 ∧ ((h_17.I a0 12) = 0 ∨ (h_17.I a0 12) = 1) ∧ Q (some (.int 1)) (h_17.sI b_3 3 (h_17.I a0 12))))))))) ∧ (¬ x2 = 0 → z_L20 h b_3 ∧ ∃ rc_22, rc = rc_22 + 48 ∧ ∃ rs_24, rs = rs_24 + 3072 ∧ z_Ct l G m_X11_beWhole [.ref (a0 + 23), .ref (b_3 + 1)] h (z_Qv (fun h_26 => z_L20 h_26 b_3 ∧ z_L0 h_26 a0 ∧ z_Ct l G m_X1_deals [.ref (b_3 + 14), .ref (a0 + 49)] h_26 (z_Qv (fun h_29 => z_L20 h_29 b_3 ∧ z_L0 h_29 a0 ∧ z_Ct l G m_X1_deals [.ref (b_3 + 16), .ref (a0 + 51)] h_29 (z_Qv (fun h_32 => z_L20 h_32 b_3 ∧ z_L0 h_32 a0 ∧ ((h_32.I b_3 3) = 0 ∨ (h_32.I b_3 3) = 1) ∧ Q (some (.int 1)) ((h_32.sI a0 12 (h_32.I b_3 3)).sI a0 14 0))))))))) : z_V l G m_X1_mark (z_Fm G m_X1_mark Q) rc rs h 46 [some (.ref a0), some (.int x1), some (.int x2), none] [] := by
  refine z_aload_n (q := 47) (i := 0) (x := a0) dX1_mark_46 rfl rfl rfl ?_
  obtain ⟨g_1, hf⟩ := hf
  refine z_get 0 22 (q := 50) (v := .ref (a0 + 59)) rfl (z_lt rfl) (z_L0_T g_1) q528 dX1_mark_47 rfl (z_fvR (fun _ _ _ => rfl) (z_L0_P22 g_1)) ?_
  refine z_iload_n (q := 51) (i := 1) (x := x1) dX1_mark_50 rfl rfl rfl ?_
  obtain ⟨g_2, hf⟩ := hf
  obtain ⟨b_3, g_4, hf⟩ := hf
  refine z_aald (q := 52) (n := 4) (v := .ref b_3) (z_L0_A22 g_1) (by decide) g_2 dX1_mark_51 rfl (z_rfR g_4) ?_
  refine z_astore_n (q := 53) (i := 3) (ls2 := [some (.ref a0), some (.int x1), some (.int x2), some (.ref b_3)]) (x := b_3) dX1_mark_52 rfl (z_lt rfl) rfl rfl ?_
  refine z_iload_n (q := 54) (i := 2) (x := x2) dX1_mark_53 rfl rfl rfl ?_
  refine z_if_eq (q := 57) (tgt := 106) dX1_mark_54 rfl rfl (fun hc => ?_) (fun hc => ?_)
  · have hf := hf.1 hc
    refine z_aload_n (q := 107) (i := 3) (x := b_3) dX1_mark_106 rfl rfl rfl ?_
    obtain ⟨g_6, hf⟩ := hf
    refine z_getN 20 0 (q := 110) (v := .ref (b_3 + 1)) rfl (z_lt rfl) (z_L20_T g_6) (z_nwm q1656 rfl) dX1_mark_107 rfl (z_fvR (fun _ _ _ => rfl) (z_L20_P0 g_6)) ?_
    refine z_aload_n (q := 111) (i := 0) (x := a0) dX1_mark_110 rfl rfl rfl ?_
    refine z_get 0 6 (q := 114) (v := .ref (a0 + 23)) rfl (z_lt rfl) (z_L0_T g_1) q512 dX1_mark_111 rfl (z_fvR (fun _ _ _ => rfl) (z_L0_P6 g_1)) ?_
    obtain ⟨rc_7, g_8, hf⟩ := hf
    obtain ⟨rs_9, g_10, hf⟩ := hf
    refine z_cVv m_X11_beWhole [.ref (a0 + 23)] ((b_3 + 1)) (q := 117) (rc2 := rc_7) (rs2 := rs_9) (st := []) dX1_mark_114 rfl q1295 oV_X11_beWhole rfl rfl ⟨z_le rfl, z_le rfl⟩ (z_le rfl) (z_rcv_of 9 rfl (z_L9_T (z_L20_N0 g_6)) rfl) g_8  g_10 hf (fun h_11 hf => ?_)
    refine z_aload_n (q := 118) (i := 0) (x := a0) dX1_mark_117 rfl rfl rfl ?_
    obtain ⟨g_12, hf⟩ := hf
    refine z_get 0 8 (q := 121) (v := .ref (a0 + 49)) rfl (z_lt rfl) (z_L0_T g_12) q514 dX1_mark_118 rfl (z_fvR (fun _ _ _ => rfl) (z_L0_P8 g_12)) ?_
    refine z_aload_n (q := 122) (i := 3) (x := b_3) dX1_mark_121 rfl rfl rfl ?_
    obtain ⟨g_13, hf⟩ := hf
    refine z_getN 20 1 (q := 125) (v := .ref (b_3 + 14)) rfl (z_lt rfl) (z_L20_T g_13) (z_nwm q1658 rfl) dX1_mark_122 rfl (z_fvR (fun _ _ _ => rfl) (z_L20_P1 g_13)) ?_
    refine z_cSv m_X1_deals [.ref (a0 + 49), .ref (b_3 + 14)] (q := 128) (rc2 := rc_7) (rs2 := rs_9) (st := []) dX1_mark_125 rfl q1204 oS_X1_deals rfl rfl ⟨z_le rfl, z_le rfl⟩ (z_le rfl) rfl  rfl hf (fun h_14 hf => ?_)
    refine z_aload_n (q := 129) (i := 0) (x := a0) dX1_mark_128 rfl rfl rfl ?_
    obtain ⟨g_15, hf⟩ := hf
    refine z_get 0 9 (q := 132) (v := .ref (a0 + 51)) rfl (z_lt rfl) (z_L0_T g_15) q515 dX1_mark_129 rfl (z_fvR (fun _ _ _ => rfl) (z_L0_P9 g_15)) ?_
    refine z_aload_n (q := 133) (i := 3) (x := b_3) dX1_mark_132 rfl rfl rfl ?_
    obtain ⟨g_16, hf⟩ := hf
    refine z_getN 20 2 (q := 136) (v := .ref (b_3 + 16)) rfl (z_lt rfl) (z_L20_T g_16) (z_nwm q1660 rfl) dX1_mark_133 rfl (z_fvR (fun _ _ _ => rfl) (z_L20_P2 g_16)) ?_
    refine z_cSv m_X1_deals [.ref (a0 + 51), .ref (b_3 + 16)] (q := 139) (rc2 := rc_7) (rs2 := rs_9) (st := []) dX1_mark_136 rfl q1204 oS_X1_deals rfl rfl ⟨z_le rfl, z_le rfl⟩ (z_le rfl) rfl  rfl hf (fun h_17 hf => ?_)
    refine z_aload_n (q := 140) (i := 3) (x := b_3) dX1_mark_139 rfl rfl rfl ?_
    refine z_aload_n (q := 141) (i := 0) (x := a0) dX1_mark_140 rfl rfl rfl ?_
    obtain ⟨g_18, hf⟩ := hf
    refine z_get 0 12 (q := 144) (v := .int (h_17.I a0 12)) rfl (z_lt rfl) (z_L0_T g_18) q518 dX1_mark_141 rfl rfl ?_
    obtain ⟨g_19, hf⟩ := hf
    obtain ⟨g_20, hf⟩ := hf
    refine z_putIN 20 3 (q := 147) (x := (h_17.I a0 12)) (v := .int (h_17.I a0 12)) rfl (z_lt rfl) (z_L20_T g_19) (z_nwm q1661 rfl) rfl dX1_mark_144 rfl rfl (z_nb01 g_20) (z_fb01 g_20) (fun _ _ _ => rfl) ?_
    refine z_iconst (q := 148) (v := 1) dX1_mark_147 rfl rfl ?_
    exact z_zret dX1_mark_148 rfl (z_nb01 z_b1) hf
  · have hf := hf.2 hc
    refine z_aload_n (q := 58) (i := 0) (x := a0) dX1_mark_57 rfl rfl rfl ?_
    refine z_get 0 6 (q := 61) (v := .ref (a0 + 23)) rfl (z_lt rfl) (z_L0_T g_1) q512 dX1_mark_58 rfl (z_fvR (fun _ _ _ => rfl) (z_L0_P6 g_1)) ?_
    refine z_aload_n (q := 62) (i := 3) (x := b_3) dX1_mark_61 rfl rfl rfl ?_
    obtain ⟨g_21, hf⟩ := hf
    refine z_getN 20 0 (q := 65) (v := .ref (b_3 + 1)) rfl (z_lt rfl) (z_L20_T g_21) (z_nwm q1656 rfl) dX1_mark_62 rfl (z_fvR (fun _ _ _ => rfl) (z_L20_P0 g_21)) ?_
    obtain ⟨rc_22, g_23, hf⟩ := hf
    obtain ⟨rs_24, g_25, hf⟩ := hf
    refine z_cVv m_X11_beWhole [.ref (b_3 + 1)] ((a0 + 23)) (q := 68) (rc2 := rc_22) (rs2 := rs_24) (st := []) dX1_mark_65 rfl q1295 oV_X11_beWhole rfl rfl ⟨z_le rfl, z_le rfl⟩ (z_le rfl) (z_rcv_of 9 rfl (z_L9_T (z_L0_N6 g_1)) rfl) g_23  g_25 hf (fun h_26 hf => ?_)
    refine z_aload_n (q := 69) (i := 3) (x := b_3) dX1_mark_68 rfl rfl rfl ?_
    obtain ⟨g_27, hf⟩ := hf
    refine z_getN 20 1 (q := 72) (v := .ref (b_3 + 14)) rfl (z_lt rfl) (z_L20_T g_27) (z_nwm q1658 rfl) dX1_mark_69 rfl (z_fvR (fun _ _ _ => rfl) (z_L20_P1 g_27)) ?_
    refine z_aload_n (q := 73) (i := 0) (x := a0) dX1_mark_72 rfl rfl rfl ?_
    obtain ⟨g_28, hf⟩ := hf
    refine z_get 0 8 (q := 76) (v := .ref (a0 + 49)) rfl (z_lt rfl) (z_L0_T g_28) q514 dX1_mark_73 rfl (z_fvR (fun _ _ _ => rfl) (z_L0_P8 g_28)) ?_
    refine z_cSv m_X1_deals [.ref (b_3 + 14), .ref (a0 + 49)] (q := 79) (rc2 := rc_22) (rs2 := rs_24) (st := []) dX1_mark_76 rfl q1204 oS_X1_deals rfl rfl ⟨z_le rfl, z_le rfl⟩ (z_le rfl) rfl  rfl hf (fun h_29 hf => ?_)
    refine z_aload_n (q := 80) (i := 3) (x := b_3) dX1_mark_79 rfl rfl rfl ?_
    obtain ⟨g_30, hf⟩ := hf
    refine z_getN 20 2 (q := 83) (v := .ref (b_3 + 16)) rfl (z_lt rfl) (z_L20_T g_30) (z_nwm q1660 rfl) dX1_mark_80 rfl (z_fvR (fun _ _ _ => rfl) (z_L20_P2 g_30)) ?_
    refine z_aload_n (q := 84) (i := 0) (x := a0) dX1_mark_83 rfl rfl rfl ?_
    obtain ⟨g_31, hf⟩ := hf
    refine z_get 0 9 (q := 87) (v := .ref (a0 + 51)) rfl (z_lt rfl) (z_L0_T g_31) q515 dX1_mark_84 rfl (z_fvR (fun _ _ _ => rfl) (z_L0_P9 g_31)) ?_
    refine z_cSv m_X1_deals [.ref (b_3 + 16), .ref (a0 + 51)] (q := 90) (rc2 := rc_22) (rs2 := rs_24) (st := []) dX1_mark_87 rfl q1204 oS_X1_deals rfl rfl ⟨z_le rfl, z_le rfl⟩ (z_le rfl) rfl  rfl hf (fun h_32 hf => ?_)
    refine z_aload_n (q := 91) (i := 0) (x := a0) dX1_mark_90 rfl rfl rfl ?_
    refine z_aload_n (q := 92) (i := 3) (x := b_3) dX1_mark_91 rfl rfl rfl ?_
    obtain ⟨g_33, hf⟩ := hf
    refine z_getN 20 3 (q := 95) (v := .int (h_32.I b_3 3)) rfl (z_lt rfl) (z_L20_T g_33) (z_nwm q1661 rfl) dX1_mark_92 rfl rfl ?_
    obtain ⟨g_34, hf⟩ := hf
    obtain ⟨g_35, hf⟩ := hf
    refine z_putI 0 12 (q := 98) (x := (h_32.I b_3 3)) (v := .int (h_32.I b_3 3)) rfl (z_lt rfl) (z_L0_T g_34) q518 rfl dX1_mark_95 rfl rfl (z_nb01 g_35) (z_fb01 g_35) (fun _ _ _ => rfl) ?_
    refine z_aload_n (q := 99) (i := 0) (x := a0) dX1_mark_98 rfl rfl rfl ?_
    refine z_iconst (q := 100) (v := 0) dX1_mark_99 rfl rfl ?_
    refine z_putI 0 14 (q := 103) (x := 0) (v := .int 0) rfl (z_lt rfl) (z_L0_T g_34) q520 rfl dX1_mark_100 rfl rfl rfl rfl (fun _ _ _ => rfl) ?_
    refine z_goto (q := 147) dX1_mark_103 rfl ?_
    refine z_iconst (q := 148) (v := 1) dX1_mark_147 rfl rfl ?_
    exact z_zret dX1_mark_148 rfl (z_nb01 z_b1) hf

theorem u_X1_must {l : Launch} {G : z_G} {d : Nat} {mc ms : Nat} {a0 : Nat} {a1 : Nat} {x2 : Int32} {h : z_H} {Q : z_Q} (hst : l.stackTraces = false)  (hf : ∃ mc_1, ∃ ms_2, ∃ rc_3, mc = rc_3 + mc_1 ∧ ∃ rs_5, ms = rs_5 + ms_2 ∧ z_L0 h a0 ∧ z_Ct l G (m_X1_tried mc_1 ms_2) [.ref a0, .int (2 * x2), .ref a1] h (z_Qr (fun b_8 h_9 => z_L0 h_9 a0 ∧ z_Ct l G m_X1_goesToHeap [.ref a0, .ref b_8] h_9 (z_Qi (fun x_11 h_12 => (x_11 = 0 → z_L9 h_12 b_8 ∧ Q (some (.int (if (h_12.I b_8 12) = 0 then 1 else 0))) h_12) ∧ (¬ x_11 = 0 → (x2 = 0 → Q (some (.int 0)) h_12) ∧ (¬ x2 = 0 → z_L9 h_12 b_8 ∧ ∀ v_14 : Int32, v_14 = (if (h_12.I b_8 10) = 0 then 1 else 0) → z_V l G (m_X1_must (d + 1) mc ms) (z_Fm G (m_X1_must (d + 1) mc ms) Q) rc_3 rs_5 h_12 53 [some (.ref a0), none, some (.int x2), some (.ref b_8), some (.int v_14), some (.int 0), none] []))))))) : z_Ct l G (m_X1_must (d + 1) mc ms) [.ref a0, .ref a1, .int x2] h Q := by
  refine z_Ct.of (ls := [some (.ref a0), some (.ref a1), some (.int x2), none, none, none, none]) hst rfl (by show plainName yX1_must.cls = true; decide +kernel) (z_le rfl) rfl ?_
  show z_V l G (m_X1_must (d + 1) mc ms) (z_Fm G (m_X1_must (d + 1) mc ms) Q) mc ms h 0 [some (.ref a0), some (.ref a1), some (.int x2), none, none, none, none] []
  refine z_aload_n (q := 1) (i := 0) (x := a0) dX1_must_0 rfl rfl rfl ?_
  refine z_iconst (q := 2) (v := 2) dX1_must_1 rfl rfl ?_
  refine z_iload_n (q := 3) (i := 2) (x := x2) dX1_must_2 rfl rfl rfl ?_
  refine z_imul (q := 4) dX1_must_3 rfl ?_
  refine z_aload_n (q := 5) (i := 1) (x := a1) dX1_must_4 rfl rfl rfl ?_
  obtain ⟨mc_1, hf⟩ := hf
  obtain ⟨ms_2, hf⟩ := hf
  obtain ⟨rc_3, g_4, hf⟩ := hf
  obtain ⟨rs_5, g_6, hf⟩ := hf
  obtain ⟨g_7, hf⟩ := hf
  refine z_cVr (m_X1_tried mc_1 ms_2) [.int (2 * x2), .ref a1] (a0) (q := 8) (rc2 := rc_3) (rs2 := rs_5) (st := []) dX1_must_5 rfl q1585 (oV_X1_tried _ _) rfl rfl (z_room_of (by first | exact z_le rfl | (simp only [z_M.d, z_M.nL, z_M.lo, m_X1_tried, m_X1_must]; omega)) (by first | exact z_le rfl | (simp only [z_M.d, z_M.nL, z_M.lo, m_X1_tried, m_X1_must]; omega))) (z_le rfl) (z_rcv_of 0 rfl (z_L0_T g_7) rfl) g_4  g_6 hf (fun b_8 h_9 hf => ?_)
  refine z_astore_n (q := 9) (i := 3) (ls2 := [some (.ref a0), some (.ref a1), some (.int x2), some (.ref b_8), none, none, none]) (x := b_8) dX1_must_8 rfl (z_lt rfl) rfl rfl ?_
  refine z_aload_n (q := 10) (i := 0) (x := a0) dX1_must_9 rfl rfl rfl ?_
  refine z_aload_n (q := 11) (i := 3) (x := b_8) dX1_must_10 rfl rfl rfl ?_
  obtain ⟨g_10, hf⟩ := hf
  refine z_cVi m_X1_goesToHeap [.ref b_8] (a0) (q := 14) (rc2 := rc_3) (rs2 := rs_5) (st := []) dX1_must_11 rfl q1589 oV_X1_goesToHeap rfl rfl (z_room_of (by first | exact z_le rfl | (simp only [z_M.d, z_M.nL, z_M.lo, m_X1_goesToHeap, m_X1_must]; omega)) (by first | exact z_le rfl | (simp only [z_M.d, z_M.nL, z_M.lo, m_X1_goesToHeap, m_X1_must]; omega))) (z_le rfl) (z_rcv_of 0 rfl (z_L0_T g_10) rfl) rfl  rfl hf (fun x_11 h_12 hf => ?_)
  refine z_if_ne (q := 17) (tgt := 30) dX1_must_14 rfl rfl (fun hc => ?_) (fun hc => ?_)
  · have hf := hf.2 hc
    refine z_iload_n (q := 31) (i := 2) (x := x2) dX1_must_30 rfl rfl rfl ?_
    refine z_if_ne (q := 34) (tgt := 36) dX1_must_31 rfl rfl (fun hc => ?_) (fun hc => ?_)
    · have hf := hf.2 hc
      refine z_aload_n (q := 37) (i := 3) (x := b_8) dX1_must_36 rfl rfl rfl ?_
      obtain ⟨g_13, hf⟩ := hf
      refine z_getN 9 10 (q := 40) (v := .int (h_12.I b_8 10)) rfl (z_lt rfl) (z_L9_T g_13) (z_nwm q396 rfl) dX1_must_37 rfl rfl ?_
      have hk : z_V l G (m_X1_must (d + 1) mc ms) (z_Fm G (m_X1_must (d + 1) mc ms) Q) rc_3 rs_5 h_12 48 [some (.ref a0), some (.ref a1), some (.int x2), some (.ref b_8), none, none, none] [.int (if (h_12.I b_8 10) = 0 then 1 else 0)] := by
        refine z_nmI (fun v_14 hv_15 => ?_)
        have hf := hf v_14 hv_15
        refine z_istore (q := 50) (i := 4) (ls2 := [some (.ref a0), some (.ref a1), some (.int x2), some (.ref b_8), some (.int v_14), none, none]) (x := v_14) dX1_must_48 (z_lt rfl) rfl rfl ?_
        refine z_iconst (q := 51) (v := 0) dX1_must_50 rfl rfl ?_
        refine z_istore (q := 53) (i := 5) (ls2 := [some (.ref a0), some (.ref a1), some (.int x2), some (.ref b_8), some (.int v_14), some (.int 0), none]) (x := 0) dX1_must_51 (z_lt rfl) rfl rfl ?_
        refine z_prune [true, false, true, true, true, true, false] (ls2 := [some (.ref a0), none, some (.int x2), some (.ref b_8), some (.int v_14), some (.int 0), none]) rfl ?_
        exact hf
      refine z_if_ne (q := 43) (tgt := 47) dX1_must_40 rfl rfl (fun hc => ?_) (fun hc => ?_)
      · have hk := (z_ite hk).2 hc
        refine z_iconst (q := 48) (v := 0) dX1_must_47 rfl rfl ?_
        exact hk
      · have hk := (z_ite hk).1 hc
        refine z_iconst (q := 44) (v := 1) dX1_must_43 rfl rfl ?_
        refine z_goto (q := 48) dX1_must_44 rfl ?_
        exact hk
    · have hf := hf.1 hc
      refine z_iconst (q := 35) (v := 0) dX1_must_34 rfl rfl ?_
      exact z_zret dX1_must_35 rfl (z_nb01 z_b0) hf
  · have hf := hf.1 hc
    refine z_aload_n (q := 18) (i := 3) (x := b_8) dX1_must_17 rfl rfl rfl ?_
    obtain ⟨g_16, hf⟩ := hf
    refine z_getN 9 12 (q := 21) (v := .int (h_12.I b_8 12)) rfl (z_lt rfl) (z_L9_T g_16) (z_nwm q402 rfl) dX1_must_18 rfl rfl ?_
    have hk : z_V l G (m_X1_must (d + 1) mc ms) (z_Fm G (m_X1_must (d + 1) mc ms) Q) rc_3 rs_5 h_12 29 [some (.ref a0), some (.ref a1), some (.int x2), some (.ref b_8), none, none, none] [.int (if (h_12.I b_8 12) = 0 then 1 else 0)] := by
      exact z_zret dX1_must_29 rfl (z_nb01 (z_bif z_b1 z_b0)) hf
    refine z_if_ne (q := 24) (tgt := 28) dX1_must_21 rfl rfl (fun hc => ?_) (fun hc => ?_)
    · have hk := (z_ite hk).2 hc
      refine z_iconst (q := 29) (v := 0) dX1_must_28 rfl rfl ?_
      exact hk
    · have hk := (z_ite hk).1 hc
      refine z_iconst (q := 25) (v := 1) dX1_must_24 rfl rfl ?_
      refine z_goto (q := 29) dX1_must_25 rfl ?_
      exact hk

theorem b_X1_must_53 {l : Launch} {G : z_G} {d : Nat} {mc ms : Nat} {rc rs : Nat} {a0 : Nat} {x2 : Int32} {a3 : Nat} {x4 : Int32} {x5 : Int32} {h : z_H} {Q : z_Q}  (hf : (5 ≤ x5 → Q (some (.int (if x4 = 0 then 1 else 0))) h) ∧ (¬ 5 ≤ x5 → ∃ mc_1, ∃ ms_2, ∃ rc_3, rc = rc_3 + mc_1 ∧ ∃ rs_5, rs = rs_5 + ms_2 ∧ z_L0 h a0 ∧ z_Ct l G (m_X1_tried mc_1 ms_2) [.ref a0, .int ((2 * x2) + 1), .ref a3] h (z_Qr (fun b_8 h_9 => z_L0 h_9 a0 ∧ ∃ b_11, (h_9.P a0 4) = some b_11 ∧ z_L8 h_9 b_11 ∧ vp_in x5 5 ∧ ∃ b_15, (h_9.P (a0 + 3) (Int32.toNatClampNeg x5)) = some b_15 ∧ z_L9 h_9 b_8 ∧ z_Ct l G m_X11_takes [.ref b_8, .ref (b_11 + 3), .ref b_15] h_9 (z_Qv (fun h_18 => ∃ mc_19, ∃ ms_20, ∃ rc_21, rc_3 = rc_21 + mc_19 ∧ ∃ rs_23, rs_5 = rs_23 + ms_20 ∧ z_L0 h_18 a0 ∧ z_Ct l G (m_X1_must d mc_19 ms_20) [.ref a0, .ref b_8, .int (x2 - 1)] h_18 (z_Qi (fun x_26 h_27 => (x_26 = x4 → (x4 = 0 ∨ x4 = 1) ∧ Q (some (.int x4)) h_27) ∧ (¬ x_26 = x4 → z_V l G (m_X1_must (d + 1) mc ms) (z_Fm G (m_X1_must (d + 1) mc ms) Q) rc_21 rs_23 h_27 53 [some (.ref a0), none, some (.int x2), some (.ref a3), some (.int x4), some (.int (x5 + 1)), none] []))))))))) : z_V l G (m_X1_must (d + 1) mc ms) (z_Fm G (m_X1_must (d + 1) mc ms) Q) rc rs h 53 [some (.ref a0), none, some (.int x2), some (.ref a3), some (.int x4), some (.int x5), none] [] := by
  refine z_iload (q := 55) (i := 5) (x := x5) dX1_must_53 rfl rfl ?_
  refine z_iconst (q := 56) (v := 5) dX1_must_55 rfl rfl ?_
  refine z_icmp_ge (q := 59) (tgt := 113) dX1_must_56 rfl rfl (fun hc => ?_) (fun hc => ?_)
  · have hf := hf.1 hc
    refine z_iload (q := 115) (i := 4) (x := x4) dX1_must_113 rfl rfl ?_
    have hk : z_V l G (m_X1_must (d + 1) mc ms) (z_Fm G (m_X1_must (d + 1) mc ms) Q) rc rs h 123 [some (.ref a0), none, some (.int x2), some (.ref a3), some (.int x4), some (.int x5), none] [.int (if x4 = 0 then 1 else 0)] := by
      exact z_zret dX1_must_123 rfl (z_nb01 (z_bif z_b1 z_b0)) hf
    refine z_if_ne (q := 118) (tgt := 122) dX1_must_115 rfl rfl (fun hc => ?_) (fun hc => ?_)
    · have hk := (z_ite hk).2 hc
      refine z_iconst (q := 123) (v := 0) dX1_must_122 rfl rfl ?_
      exact hk
    · have hk := (z_ite hk).1 hc
      refine z_iconst (q := 119) (v := 1) dX1_must_118 rfl rfl ?_
      refine z_goto (q := 123) dX1_must_119 rfl ?_
      exact hk
  · have hf := hf.2 hc
    refine z_aload_n (q := 60) (i := 0) (x := a0) dX1_must_59 rfl rfl rfl ?_
    refine z_iconst (q := 61) (v := 2) dX1_must_60 rfl rfl ?_
    refine z_iload_n (q := 62) (i := 2) (x := x2) dX1_must_61 rfl rfl rfl ?_
    refine z_imul (q := 63) dX1_must_62 rfl ?_
    refine z_iconst (q := 64) (v := 1) dX1_must_63 rfl rfl ?_
    refine z_iadd (q := 65) dX1_must_64 rfl ?_
    refine z_aload_n (q := 66) (i := 3) (x := a3) dX1_must_65 rfl rfl rfl ?_
    obtain ⟨mc_1, hf⟩ := hf
    obtain ⟨ms_2, hf⟩ := hf
    obtain ⟨rc_3, g_4, hf⟩ := hf
    obtain ⟨rs_5, g_6, hf⟩ := hf
    obtain ⟨g_7, hf⟩ := hf
    refine z_cVr (m_X1_tried mc_1 ms_2) [.int ((2 * x2) + 1), .ref a3] (a0) (q := 69) (rc2 := rc_3) (rs2 := rs_5) (st := []) dX1_must_66 rfl q1585 (oV_X1_tried _ _) rfl rfl (z_room_of (by first | exact z_le rfl | (simp only [z_M.d, z_M.nL, z_M.lo, m_X1_tried, m_X1_must]; omega)) (by first | exact z_le rfl | (simp only [z_M.d, z_M.nL, z_M.lo, m_X1_tried, m_X1_must]; omega))) (z_le rfl) (z_rcv_of 0 rfl (z_L0_T g_7) rfl) g_4  g_6 hf (fun b_8 h_9 hf => ?_)
    refine z_astore (q := 71) (i := 6) (ls2 := [some (.ref a0), none, some (.int x2), some (.ref a3), some (.int x4), some (.int x5), some (.ref b_8)]) (x := b_8) dX1_must_69 (z_lt rfl) rfl rfl ?_
    refine z_aload (q := 73) (i := 6) (x := b_8) dX1_must_71 rfl rfl ?_
    refine z_aload_n (q := 74) (i := 0) (x := a0) dX1_must_73 rfl rfl rfl ?_
    obtain ⟨g_10, hf⟩ := hf
    obtain ⟨b_11, g_12, hf⟩ := hf
    refine z_get 0 4 (q := 77) (v := .ref b_11) rfl (z_lt rfl) (z_L0_T g_10) q510 dX1_must_74 rfl (z_fvR (fun _ _ _ => rfl) g_12) ?_
    obtain ⟨g_13, hf⟩ := hf
    refine z_getN 8 1 (q := 80) (v := .ref (b_11 + 3)) rfl (z_lt rfl) (z_L8_T g_13) (z_nwm q334 rfl) dX1_must_77 rfl (z_fvR (fun _ _ _ => rfl) (z_L8_P1 g_13)) ?_
    refine z_aload_n (q := 81) (i := 0) (x := a0) dX1_must_80 rfl rfl rfl ?_
    refine z_get 0 2 (q := 84) (v := .ref (a0 + 3)) rfl (z_lt rfl) (z_L0_T g_10) q507 dX1_must_81 rfl (z_fvR (fun _ _ _ => rfl) (z_L0_P2 g_10)) ?_
    refine z_iload (q := 86) (i := 5) (x := x5) dX1_must_84 rfl rfl ?_
    obtain ⟨g_14, hf⟩ := hf
    obtain ⟨b_15, g_16, hf⟩ := hf
    refine z_aald (q := 87) (n := 5) (v := .ref b_15) (z_L0_A2 g_10) (by decide) g_14 dX1_must_86 rfl (z_rfR g_16) ?_
    obtain ⟨g_17, hf⟩ := hf
    refine z_cVv m_X11_takes [.ref (b_11 + 3), .ref b_15] (b_8) (q := 90) (rc2 := rc_3) (rs2 := rs_5) (st := []) dX1_must_87 rfl q1368 oV_X11_takes rfl rfl (z_room_of (by first | exact z_le rfl | (simp only [z_M.d, z_M.nL, z_M.lo, m_X11_takes, m_X1_must]; omega)) (by first | exact z_le rfl | (simp only [z_M.d, z_M.nL, z_M.lo, m_X11_takes, m_X1_must]; omega))) (z_le rfl) (z_rcv_of 9 rfl (z_L9_T g_17) rfl) rfl  rfl hf (fun h_18 hf => ?_)
    refine z_aload_n (q := 91) (i := 0) (x := a0) dX1_must_90 rfl rfl rfl ?_
    refine z_aload (q := 93) (i := 6) (x := b_8) dX1_must_91 rfl rfl ?_
    refine z_iload_n (q := 94) (i := 2) (x := x2) dX1_must_93 rfl rfl rfl ?_
    refine z_iconst (q := 95) (v := 1) dX1_must_94 rfl rfl ?_
    refine z_isub (q := 96) dX1_must_95 rfl ?_
    obtain ⟨mc_19, hf⟩ := hf
    obtain ⟨ms_20, hf⟩ := hf
    obtain ⟨rc_21, g_22, hf⟩ := hf
    obtain ⟨rs_23, g_24, hf⟩ := hf
    obtain ⟨g_25, hf⟩ := hf
    refine z_cVi (m_X1_must d mc_19 ms_20) [.ref b_8, .int (x2 - 1)] (a0) (q := 99) (rc2 := rc_21) (rs2 := rs_23) (st := []) dX1_must_96 rfl q1597 (oV_X1_must _ _ _) rfl rfl (z_room_of (by first | exact z_le rfl | (simp only [z_M.d, z_M.nL, z_M.lo, m_X1_must, m_X1_must]; omega)) (by first | exact z_le rfl | (simp only [z_M.d, z_M.nL, z_M.lo, m_X1_must, m_X1_must]; omega))) (z_le rfl) (z_rcv_of 0 rfl (z_L0_T g_25) rfl) g_22  g_24 hf (fun x_26 h_27 hf => ?_)
    refine z_iload (q := 101) (i := 4) (x := x4) dX1_must_99 rfl rfl ?_
    refine z_icmp_ne (q := 104) (tgt := 107) dX1_must_101 rfl rfl (fun hc => ?_) (fun hc => ?_)
    · have hf := hf.2 hc
      refine z_iinc (q := 110) (i := 5) (x := x5) (v := (x5 + 1)) (ls2 := [some (.ref a0), none, some (.int x2), some (.ref a3), some (.int x4), some (.int (x5 + 1)), some (.ref b_8)]) dX1_must_107 rfl rfl (z_lt rfl) rfl rfl ?_
      refine z_goto (q := 53) dX1_must_110 rfl ?_
      refine z_prune [true, false, true, true, true, true, false] (ls2 := [some (.ref a0), none, some (.int x2), some (.ref a3), some (.int x4), some (.int (x5 + 1)), none]) rfl ?_
      exact hf
    · have hf := hf.1 hc
      refine z_iload (q := 106) (i := 4) (x := x4) dX1_must_104 rfl rfl ?_
      obtain ⟨g_28, hf⟩ := hf
      exact z_zret dX1_must_106 rfl (z_nb01 g_28) hf

theorem u_X1_nextRow {l : Launch} {G : z_G} {a0 : Nat} {h : z_H} {Q : z_Q} (hst : l.stackTraces = false)  (hf : z_L0 h a0 ∧ ∀ v_2 : Int32, v_2 = ((h.I a0 16) - 2) → z_V l G m_X1_nextRow (z_Fm G m_X1_nextRow Q) 0 0 h 7 [some (.ref a0), some (.int v_2), none, none, none] []) : z_Ct l G m_X1_nextRow [.ref a0] h Q := by
  refine z_Ct.of (ls := [some (.ref a0), none, none, none, none]) hst rfl (by show plainName yX1_nextRow.cls = true; decide +kernel) (z_le rfl) rfl ?_
  show z_V l G m_X1_nextRow (z_Fm G m_X1_nextRow Q) 0 0 h 0 [some (.ref a0), none, none, none, none] []
  refine z_aload_n (q := 1) (i := 0) (x := a0) dX1_nextRow_0 rfl rfl rfl ?_
  obtain ⟨g_1, hf⟩ := hf
  refine z_get 0 16 (q := 4) (v := .int (h.I a0 16)) rfl (z_lt rfl) (z_L0_T g_1) q522 dX1_nextRow_1 rfl rfl ?_
  refine z_iconst (q := 5) (v := 2) dX1_nextRow_4 rfl rfl ?_
  refine z_isub (q := 6) dX1_nextRow_5 rfl ?_
  refine z_nmI (fun v_2 hv_3 => ?_)
  have hf := hf v_2 hv_3
  refine z_istore_n (q := 7) (i := 1) (ls2 := [some (.ref a0), some (.int v_2), none, none, none]) (x := v_2) dX1_nextRow_6 rfl (z_lt rfl) rfl rfl ?_
  exact hf

theorem b_X1_nextRow_7 {l : Launch} {G : z_G} {a0 : Nat} {x1 : Int32} {h : z_H} {Q : z_Q}  (hf : (x1 < 0 → (0 ≤ x1 → z_L0 h a0 ∧ ∀ v_2 : Int32, v_2 = ((h.I a0 16) - 1) → z_V l G m_X1_nextRow (z_Fm G m_X1_nextRow Q) 0 0 h 47 [some (.ref a0), some (.int x1), some (.int v_2), none, none] []) ∧ (¬ 0 ≤ x1 → Q (some (.int 0)) h)) ∧ (¬ x1 < 0 → z_L0 h a0 ∧ vp_in x1 24 ∧ vp_in (x1 + 1) 24 ∧ ((h.I (a0 + 55) (Int32.toNatClampNeg x1)) < (h.I (a0 + 55) (Int32.toNatClampNeg (x1 + 1))) → (0 ≤ x1 → ∀ v_7 : Int32, v_7 = ((h.I a0 16) - 1) → z_V l G m_X1_nextRow (z_Fm G m_X1_nextRow Q) 0 0 h 47 [some (.ref a0), some (.int x1), some (.int v_7), none, none] []) ∧ (¬ 0 ≤ x1 → Q (some (.int 0)) h)) ∧ (¬ (h.I (a0 + 55) (Int32.toNatClampNeg x1)) < (h.I (a0 + 55) (Int32.toNatClampNeg (x1 + 1))) → z_V l G m_X1_nextRow (z_Fm G m_X1_nextRow Q) 0 0 h 7 [some (.ref a0), some (.int (x1 + (-1))), none, none, none] []))) : z_V l G m_X1_nextRow (z_Fm G m_X1_nextRow Q) 0 0 h 7 [some (.ref a0), some (.int x1), none, none, none] [] := by
  refine z_iload_n (q := 8) (i := 1) (x := x1) dX1_nextRow_7 rfl rfl rfl ?_
  refine z_if_lt (q := 11) (tgt := 34) dX1_nextRow_8 rfl rfl (fun hc => ?_) (fun hc => ?_)
  · have hf := hf.1 hc
    refine z_iload_n (q := 35) (i := 1) (x := x1) dX1_nextRow_34 rfl rfl rfl ?_
    refine z_if_ge (q := 38) (tgt := 40) dX1_nextRow_35 rfl rfl (fun hc => ?_) (fun hc => ?_)
    · have hf := hf.1 hc
      refine z_aload_n (q := 41) (i := 0) (x := a0) dX1_nextRow_40 rfl rfl rfl ?_
      obtain ⟨g_1, hf⟩ := hf
      refine z_get 0 16 (q := 44) (v := .int (h.I a0 16)) rfl (z_lt rfl) (z_L0_T g_1) q522 dX1_nextRow_41 rfl rfl ?_
      refine z_iconst (q := 45) (v := 1) dX1_nextRow_44 rfl rfl ?_
      refine z_isub (q := 46) dX1_nextRow_45 rfl ?_
      refine z_nmI (fun v_2 hv_3 => ?_)
      have hf := hf v_2 hv_3
      refine z_istore_n (q := 47) (i := 2) (ls2 := [some (.ref a0), some (.int x1), some (.int v_2), none, none]) (x := v_2) dX1_nextRow_46 rfl (z_lt rfl) rfl rfl ?_
      exact hf
    · have hf := hf.2 hc
      refine z_iconst (q := 39) (v := 0) dX1_nextRow_38 rfl rfl ?_
      exact z_zret dX1_nextRow_39 rfl (z_nb01 z_b0) hf
  · have hf := hf.2 hc
    refine z_aload_n (q := 12) (i := 0) (x := a0) dX1_nextRow_11 rfl rfl rfl ?_
    obtain ⟨g_4, hf⟩ := hf
    refine z_get 0 15 (q := 15) (v := .ref (a0 + 55)) rfl (z_lt rfl) (z_L0_T g_4) q521 dX1_nextRow_12 rfl (z_fvR (fun _ _ _ => rfl) (z_L0_P15 g_4)) ?_
    refine z_iload_n (q := 16) (i := 1) (x := x1) dX1_nextRow_15 rfl rfl rfl ?_
    obtain ⟨g_5, hf⟩ := hf
    refine z_iald (q := 17) (n := 24) (z_L0_A15 g_4) g_5 dX1_nextRow_16 rfl ?_
    refine z_aload_n (q := 18) (i := 0) (x := a0) dX1_nextRow_17 rfl rfl rfl ?_
    refine z_get 0 15 (q := 21) (v := .ref (a0 + 55)) rfl (z_lt rfl) (z_L0_T g_4) q521 dX1_nextRow_18 rfl (z_fvR (fun _ _ _ => rfl) (z_L0_P15 g_4)) ?_
    refine z_iload_n (q := 22) (i := 1) (x := x1) dX1_nextRow_21 rfl rfl rfl ?_
    refine z_iconst (q := 23) (v := 1) dX1_nextRow_22 rfl rfl ?_
    refine z_iadd (q := 24) dX1_nextRow_23 rfl ?_
    obtain ⟨g_6, hf⟩ := hf
    refine z_iald (q := 25) (n := 24) (z_L0_A15 g_4) g_6 dX1_nextRow_24 rfl ?_
    refine z_icmp_lt (q := 28) (tgt := 34) dX1_nextRow_25 rfl rfl (fun hc => ?_) (fun hc => ?_)
    · have hf := hf.1 hc
      refine z_iload_n (q := 35) (i := 1) (x := x1) dX1_nextRow_34 rfl rfl rfl ?_
      refine z_if_ge (q := 38) (tgt := 40) dX1_nextRow_35 rfl rfl (fun hc => ?_) (fun hc => ?_)
      · have hf := hf.1 hc
        refine z_aload_n (q := 41) (i := 0) (x := a0) dX1_nextRow_40 rfl rfl rfl ?_
        refine z_get 0 16 (q := 44) (v := .int (h.I a0 16)) rfl (z_lt rfl) (z_L0_T g_4) q522 dX1_nextRow_41 rfl rfl ?_
        refine z_iconst (q := 45) (v := 1) dX1_nextRow_44 rfl rfl ?_
        refine z_isub (q := 46) dX1_nextRow_45 rfl ?_
        refine z_nmI (fun v_7 hv_8 => ?_)
        have hf := hf v_7 hv_8
        refine z_istore_n (q := 47) (i := 2) (ls2 := [some (.ref a0), some (.int x1), some (.int v_7), none, none]) (x := v_7) dX1_nextRow_46 rfl (z_lt rfl) rfl rfl ?_
        exact hf
      · have hf := hf.2 hc
        refine z_iconst (q := 39) (v := 0) dX1_nextRow_38 rfl rfl ?_
        exact z_zret dX1_nextRow_39 rfl (z_nb01 z_b0) hf
    · have hf := hf.2 hc
      refine z_iinc (q := 31) (i := 1) (x := x1) (v := (x1 + (-1))) (ls2 := [some (.ref a0), some (.int (x1 + (-1))), none, none, none]) dX1_nextRow_28 rfl rfl (z_lt rfl) rfl rfl ?_
      refine z_goto (q := 7) dX1_nextRow_31 rfl ?_
      exact hf

theorem b_X1_nextRow_47 {l : Launch} {G : z_G} {a0 : Nat} {x1 : Int32} {x2 : Int32} {h : z_H} {Q : z_Q}  (hf : z_L0 h a0 ∧ vp_in x2 24 ∧ vp_in x1 24 ∧ ((h.I (a0 + 55) (Int32.toNatClampNeg x1)) < (h.I (a0 + 55) (Int32.toNatClampNeg x2)) → z_Ct l G m_X1_changes [.ref a0, .int x1, .int x2] h (z_Qv (fun h_4 => z_L0 h_4 a0 ∧ ∀ v_6 : Int32, v_6 = ((h_4.I a0 16) - 1) → z_V l G m_X1_nextRow (z_Fm G m_X1_nextRow Q) 0 0 h_4 86 [some (.ref a0), none, none, some (.int (x1 + 1)), some (.int v_6)] []))) ∧ (¬ (h.I (a0 + 55) (Int32.toNatClampNeg x1)) < (h.I (a0 + 55) (Int32.toNatClampNeg x2)) → z_V l G m_X1_nextRow (z_Fm G m_X1_nextRow Q) 0 0 h 47 [some (.ref a0), some (.int x1), some (.int (x2 + (-1))), none, none] [])) : z_V l G m_X1_nextRow (z_Fm G m_X1_nextRow Q) 0 0 h 47 [some (.ref a0), some (.int x1), some (.int x2), none, none] [] := by
  refine z_aload_n (q := 48) (i := 0) (x := a0) dX1_nextRow_47 rfl rfl rfl ?_
  obtain ⟨g_1, hf⟩ := hf
  refine z_get 0 15 (q := 51) (v := .ref (a0 + 55)) rfl (z_lt rfl) (z_L0_T g_1) q521 dX1_nextRow_48 rfl (z_fvR (fun _ _ _ => rfl) (z_L0_P15 g_1)) ?_
  refine z_iload_n (q := 52) (i := 2) (x := x2) dX1_nextRow_51 rfl rfl rfl ?_
  obtain ⟨g_2, hf⟩ := hf
  refine z_iald (q := 53) (n := 24) (z_L0_A15 g_1) g_2 dX1_nextRow_52 rfl ?_
  refine z_aload_n (q := 54) (i := 0) (x := a0) dX1_nextRow_53 rfl rfl rfl ?_
  refine z_get 0 15 (q := 57) (v := .ref (a0 + 55)) rfl (z_lt rfl) (z_L0_T g_1) q521 dX1_nextRow_54 rfl (z_fvR (fun _ _ _ => rfl) (z_L0_P15 g_1)) ?_
  refine z_iload_n (q := 58) (i := 1) (x := x1) dX1_nextRow_57 rfl rfl rfl ?_
  obtain ⟨g_3, hf⟩ := hf
  refine z_iald (q := 59) (n := 24) (z_L0_A15 g_1) g_3 dX1_nextRow_58 rfl ?_
  refine z_icmp_gt (q := 62) (tgt := 68) dX1_nextRow_59 rfl rfl (fun hc => ?_) (fun hc => ?_)
  · have hf := hf.1 hc
    refine z_aload_n (q := 69) (i := 0) (x := a0) dX1_nextRow_68 rfl rfl rfl ?_
    refine z_iload_n (q := 70) (i := 1) (x := x1) dX1_nextRow_69 rfl rfl rfl ?_
    refine z_iload_n (q := 71) (i := 2) (x := x2) dX1_nextRow_70 rfl rfl rfl ?_
    refine z_cVv m_X1_changes [.int x1, .int x2] (a0) (q := 74) (rc2 := 0) (rs2 := 0) (st := []) dX1_nextRow_71 rfl q1469 oV_X1_changes rfl rfl ⟨z_le rfl, z_le rfl⟩ (z_le rfl) (z_rcv_of 0 rfl (z_L0_T g_1) rfl) rfl  rfl hf (fun h_4 hf => ?_)
    refine z_iload_n (q := 75) (i := 1) (x := x1) dX1_nextRow_74 rfl rfl rfl ?_
    refine z_iconst (q := 76) (v := 1) dX1_nextRow_75 rfl rfl ?_
    refine z_iadd (q := 77) dX1_nextRow_76 rfl ?_
    refine z_istore_n (q := 78) (i := 3) (ls2 := [some (.ref a0), some (.int x1), some (.int x2), some (.int (x1 + 1)), none]) (x := (x1 + 1)) dX1_nextRow_77 rfl (z_lt rfl) rfl rfl ?_
    refine z_aload_n (q := 79) (i := 0) (x := a0) dX1_nextRow_78 rfl rfl rfl ?_
    obtain ⟨g_5, hf⟩ := hf
    refine z_get 0 16 (q := 82) (v := .int (h_4.I a0 16)) rfl (z_lt rfl) (z_L0_T g_5) q522 dX1_nextRow_79 rfl rfl ?_
    refine z_iconst (q := 83) (v := 1) dX1_nextRow_82 rfl rfl ?_
    refine z_isub (q := 84) dX1_nextRow_83 rfl ?_
    refine z_nmI (fun v_6 hv_7 => ?_)
    have hf := hf v_6 hv_7
    refine z_istore (q := 86) (i := 4) (ls2 := [some (.ref a0), some (.int x1), some (.int x2), some (.int (x1 + 1)), some (.int v_6)]) (x := v_6) dX1_nextRow_84 (z_lt rfl) rfl rfl ?_
    refine z_prune [true, false, false, true, true] (ls2 := [some (.ref a0), none, none, some (.int (x1 + 1)), some (.int v_6)]) rfl ?_
    exact hf
  · have hf := hf.2 hc
    refine z_iinc (q := 65) (i := 2) (x := x2) (v := (x2 + (-1))) (ls2 := [some (.ref a0), some (.int x1), some (.int (x2 + (-1))), none, none]) dX1_nextRow_62 rfl rfl (z_lt rfl) rfl rfl ?_
    refine z_goto (q := 47) dX1_nextRow_65 rfl ?_
    exact hf

theorem b_X1_nextRow_86 {l : Launch} {G : z_G} {a0 : Nat} {x3 : Int32} {x4 : Int32} {h : z_H} {Q : z_Q}  (hf : (x4 ≤ x3 → Q (some (.int 1)) h) ∧ (¬ x4 ≤ x3 → z_L0 h a0 ∧ z_Ct l G m_X1_changes [.ref a0, .int x3, .int x4] h (z_Qv (fun h_2 => z_V l G m_X1_nextRow (z_Fm G m_X1_nextRow Q) 0 0 h_2 86 [some (.ref a0), none, none, some (.int (x3 + 1)), some (.int (x4 + (-1)))] [])))) : z_V l G m_X1_nextRow (z_Fm G m_X1_nextRow Q) 0 0 h 86 [some (.ref a0), none, none, some (.int x3), some (.int x4)] [] := by
  refine z_iload_n (q := 87) (i := 3) (x := x3) dX1_nextRow_86 rfl rfl rfl ?_
  refine z_iload (q := 89) (i := 4) (x := x4) dX1_nextRow_87 rfl rfl ?_
  refine z_icmp_ge (q := 92) (tgt := 108) dX1_nextRow_89 rfl rfl (fun hc => ?_) (fun hc => ?_)
  · have hf := hf.1 hc
    refine z_iconst (q := 109) (v := 1) dX1_nextRow_108 rfl rfl ?_
    exact z_zret dX1_nextRow_109 rfl (z_nb01 z_b1) hf
  · have hf := hf.2 hc
    refine z_aload_n (q := 93) (i := 0) (x := a0) dX1_nextRow_92 rfl rfl rfl ?_
    refine z_iload_n (q := 94) (i := 3) (x := x3) dX1_nextRow_93 rfl rfl rfl ?_
    refine z_iload (q := 96) (i := 4) (x := x4) dX1_nextRow_94 rfl rfl ?_
    obtain ⟨g_1, hf⟩ := hf
    refine z_cVv m_X1_changes [.int x3, .int x4] (a0) (q := 99) (rc2 := 0) (rs2 := 0) (st := []) dX1_nextRow_96 rfl q1469 oV_X1_changes rfl rfl ⟨z_le rfl, z_le rfl⟩ (z_le rfl) (z_rcv_of 0 rfl (z_L0_T g_1) rfl) rfl  rfl hf (fun h_2 hf => ?_)
    refine z_iinc (q := 102) (i := 3) (x := x3) (v := (x3 + 1)) (ls2 := [some (.ref a0), none, none, some (.int (x3 + 1)), some (.int x4)]) dX1_nextRow_99 rfl rfl (z_lt rfl) rfl rfl ?_
    refine z_iinc (q := 105) (i := 4) (x := x4) (v := (x4 + (-1))) (ls2 := [some (.ref a0), none, none, some (.int (x3 + 1)), some (.int (x4 + (-1)))]) dX1_nextRow_102 rfl rfl (z_lt rfl) rfl rfl ?_
    refine z_goto (q := 86) dX1_nextRow_105 rfl ?_
    exact hf

theorem u_X1_odds {l : Launch} {G : z_G} {a0 : Nat} {x1 : Int32} {h : z_H} {Q : z_Q} (hst : l.stackTraces = false)  (hf : z_Ct l G m_X1_in [.int x1, .int 0, .int 2] h (z_Qi (fun x_1 h_2 => (x_1 = 0 → Q (some (.int (-1))) h_2) ∧ (¬ x_1 = 0 → z_L0 h_2 a0 ∧ z_Ct l G m_X1_goesThrough [.ref a0] h_2 (z_Qi (fun x_4 h_5 => (x_4 = 0 → Q (some (.int (-1))) h_5) ∧ (¬ x_4 = 0 → z_L0 h_5 a0 ∧ ((2 ≤ x1 → vp_in 0 4 ∧ vp_in 1 4 ∧ vp_in 2 4 ∧ vp_in 3 4 ∧ True) ∧ (¬ 2 ≤ x1 → vp_in x1 4 ∧ True)) ∧ Q (some (.int (if 2 ≤ x1 then ((((h_5.I (a0 + 56) (Int32.toNatClampNeg 0)) + (h_5.I (a0 + 56) (Int32.toNatClampNeg 1))) + (h_5.I (a0 + 56) (Int32.toNatClampNeg 2))) + (h_5.I (a0 + 56) (Int32.toNatClampNeg 3))) else (h_5.I (a0 + 56) (Int32.toNatClampNeg x1))))) h_5))))))) : z_Ct l G m_X1_odds [.ref a0, .int x1] h Q := by
  refine z_Ct.of (ls := [some (.ref a0), some (.int x1)]) hst rfl (by show plainName yX1_odds.cls = true; decide +kernel) (z_le rfl) rfl ?_
  show z_V l G m_X1_odds (z_Fm G m_X1_odds Q) 1 8 h 0 [some (.ref a0), some (.int x1)] []
  refine z_iload_n (q := 1) (i := 1) (x := x1) dX1_odds_0 rfl rfl rfl ?_
  refine z_iconst (q := 2) (v := 0) dX1_odds_1 rfl rfl ?_
  refine z_iconst (q := 3) (v := 2) dX1_odds_2 rfl rfl ?_
  refine z_cSi m_X1_in [.int x1, .int 0, .int 2] (q := 6) (rc2 := 1) (rs2 := 8) (st := []) dX1_odds_3 rfl q1259 oS_X1_in rfl rfl ⟨z_le rfl, z_le rfl⟩ (z_le rfl) rfl  rfl hf (fun x_1 h_2 hf => ?_)
  refine z_if_eq (q := 9) (tgt := 16) dX1_odds_6 rfl rfl (fun hc => ?_) (fun hc => ?_)
  · have hf := hf.1 hc
    refine z_iconst (q := 17) (v := (-1)) dX1_odds_16 rfl rfl ?_
    exact z_iret dX1_odds_17 rfl hf
  · have hf := hf.2 hc
    refine z_aload_n (q := 10) (i := 0) (x := a0) dX1_odds_9 rfl rfl rfl ?_
    obtain ⟨g_3, hf⟩ := hf
    refine z_cVi m_X1_goesThrough [] (a0) (q := 13) (rc2 := 0) (rs2 := 0) (st := []) dX1_odds_10 rfl q1523 oV_X1_goesThrough rfl rfl ⟨z_le rfl, z_le rfl⟩ (z_le rfl) (z_rcv_of 0 rfl (z_L0_T g_3) rfl) rfl  rfl hf (fun x_4 h_5 hf => ?_)
    refine z_if_ne (q := 16) (tgt := 18) dX1_odds_13 rfl rfl (fun hc => ?_) (fun hc => ?_)
    · have hf := hf.2 hc
      refine z_iload_n (q := 19) (i := 1) (x := x1) dX1_odds_18 rfl rfl rfl ?_
      refine z_iconst (q := 20) (v := 2) dX1_odds_19 rfl rfl ?_
      obtain ⟨g_6, hf⟩ := hf
      obtain ⟨hsc, hf⟩ := hf
      have hk : z_V l G m_X1_odds (z_Fm G m_X1_odds Q) 0 0 h_5 59 [some (.ref a0), some (.int x1)] [.int (if 2 ≤ x1 then ((((h_5.I (a0 + 56) (Int32.toNatClampNeg 0)) + (h_5.I (a0 + 56) (Int32.toNatClampNeg 1))) + (h_5.I (a0 + 56) (Int32.toNatClampNeg 2))) + (h_5.I (a0 + 56) (Int32.toNatClampNeg 3))) else (h_5.I (a0 + 56) (Int32.toNatClampNeg x1)))] := by
        exact z_iret dX1_odds_59 rfl hf
      refine z_icmp_ge (q := 23) (tgt := 32) dX1_odds_20 rfl rfl (fun hc => ?_) (fun hc => ?_)
      · have hk := (z_ite hk).1 hc
        have hsc := hsc.1 hc
        obtain ⟨g_7, hsc⟩ := hsc
        obtain ⟨g_8, hsc⟩ := hsc
        obtain ⟨g_9, hsc⟩ := hsc
        obtain ⟨g_10, hsc⟩ := hsc
        refine z_aload_n (q := 33) (i := 0) (x := a0) dX1_odds_32 rfl rfl rfl ?_
        refine z_get 0 17 (q := 36) (v := .ref (a0 + 56)) rfl (z_lt rfl) (z_L0_T g_6) q523 dX1_odds_33 rfl (z_fvR (fun _ _ _ => rfl) (z_L0_P17 g_6)) ?_
        refine z_iconst (q := 37) (v := 0) dX1_odds_36 rfl rfl ?_
        refine z_iald (q := 38) (n := 4) (z_L0_A17 g_6) g_7 dX1_odds_37 rfl ?_
        refine z_aload_n (q := 39) (i := 0) (x := a0) dX1_odds_38 rfl rfl rfl ?_
        refine z_get 0 17 (q := 42) (v := .ref (a0 + 56)) rfl (z_lt rfl) (z_L0_T g_6) q523 dX1_odds_39 rfl (z_fvR (fun _ _ _ => rfl) (z_L0_P17 g_6)) ?_
        refine z_iconst (q := 43) (v := 1) dX1_odds_42 rfl rfl ?_
        refine z_iald (q := 44) (n := 4) (z_L0_A17 g_6) g_8 dX1_odds_43 rfl ?_
        refine z_iadd (q := 45) dX1_odds_44 rfl ?_
        refine z_aload_n (q := 46) (i := 0) (x := a0) dX1_odds_45 rfl rfl rfl ?_
        refine z_get 0 17 (q := 49) (v := .ref (a0 + 56)) rfl (z_lt rfl) (z_L0_T g_6) q523 dX1_odds_46 rfl (z_fvR (fun _ _ _ => rfl) (z_L0_P17 g_6)) ?_
        refine z_iconst (q := 50) (v := 2) dX1_odds_49 rfl rfl ?_
        refine z_iald (q := 51) (n := 4) (z_L0_A17 g_6) g_9 dX1_odds_50 rfl ?_
        refine z_iadd (q := 52) dX1_odds_51 rfl ?_
        refine z_aload_n (q := 53) (i := 0) (x := a0) dX1_odds_52 rfl rfl rfl ?_
        refine z_get 0 17 (q := 56) (v := .ref (a0 + 56)) rfl (z_lt rfl) (z_L0_T g_6) q523 dX1_odds_53 rfl (z_fvR (fun _ _ _ => rfl) (z_L0_P17 g_6)) ?_
        refine z_iconst (q := 57) (v := 3) dX1_odds_56 rfl rfl ?_
        refine z_iald (q := 58) (n := 4) (z_L0_A17 g_6) g_10 dX1_odds_57 rfl ?_
        refine z_iadd (q := 59) dX1_odds_58 rfl ?_
        exact hk
      · have hk := (z_ite hk).2 hc
        have hsc := hsc.2 hc
        obtain ⟨g_11, hsc⟩ := hsc
        refine z_aload_n (q := 24) (i := 0) (x := a0) dX1_odds_23 rfl rfl rfl ?_
        refine z_get 0 17 (q := 27) (v := .ref (a0 + 56)) rfl (z_lt rfl) (z_L0_T g_6) q523 dX1_odds_24 rfl (z_fvR (fun _ _ _ => rfl) (z_L0_P17 g_6)) ?_
        refine z_iload_n (q := 28) (i := 1) (x := x1) dX1_odds_27 rfl rfl rfl ?_
        refine z_iald (q := 29) (n := 4) (z_L0_A17 g_6) g_11 dX1_odds_28 rfl ?_
        refine z_goto (q := 59) dX1_odds_29 rfl ?_
        exact hk
    · have hf := hf.1 hc
      refine z_iconst (q := 17) (v := (-1)) dX1_odds_16 rfl rfl ?_
      exact z_iret dX1_odds_17 rfl hf

theorem u_X1_offer {l : Launch} {G : z_G} {a0 : Nat} {h : z_H} {Q : z_Q} (hst : l.stackTraces = false)  (hf : z_L0 h a0 ∧ vp_in 0 4 ∧ ∃ b_3, (h.P a0 4) = some b_3 ∧ z_L8 h b_3 ∧ z_Ct l G m_X11_worth [.ref (a0 + 23), .int 0, .ref (b_3 + 3)] (h.sI (a0 + 53) (Int32.toNatClampNeg 0) ((h.I (a0 + 23) 6) - (h.I (a0 + 23) 7))) (z_Qi (fun x_6 h_7 => z_L0 h_7 a0 ∧ ∃ b_9, (h_7.P a0 4) = some b_9 ∧ z_L8 h_7 b_9 ∧ z_Ct l G m_X11_worth [.ref (a0 + 23), .int 1, .ref (b_9 + 3)] h_7 (z_Qi (fun x_12 h_13 => ∃ n_14, h_13.T (a0 + 53) = (1, n_14) ∧ vp_in 1 n_14 ∧ z_L0 h_13 a0 ∧ vp_in 2 4 ∧ vp_in 3 4 ∧ ∃ b_20, (h_13.P a0 4) = some b_20 ∧ z_L8 h_13 b_20 ∧ ((h_13.P b_20 6) = none → Q (some (.int 10)) (((h_13.sI (a0 + 53) (Int32.toNatClampNeg 1) (x_6 - x_12)).sI (a0 + 53) (Int32.toNatClampNeg 2) (h_13.I (a0 + 23) 14)).sI (a0 + 53) (Int32.toNatClampNeg 3) (h_13.I (a0 + 23) 13))) ∧ (∀ b_23, (h_13.P b_20 6) = some b_23 → ∃ b_25, (h_13.P a0 4) = some b_25 ∧ z_L8 h_13 b_25 ∧ ∃ b_28, (h_13.P b_25 6) = some b_28 ∧ z_iworked l G 1010 [.ref b_28, .ref (a0 + 53)] (((h_13.sI (a0 + 53) (Int32.toNatClampNeg 1) (x_6 - x_12)).sI (a0 + 53) (Int32.toNatClampNeg 2) (h_13.I (a0 + 23) 14)).sI (a0 + 53) (Int32.toNatClampNeg 3) (h_13.I (a0 + 23) 13)) (z_Qi (fun x_31 h_30 => z_Ct l G m_J5_min [.int 99, .int x_31] h_30 (z_Qi (fun x_32 h_33 => z_Ct l G m_J5_max [.int 0, .int x_32] h_33 (z_Qi (fun x_34 h_35 => Q (some (.int x_34)) h_35)))))))))))) : z_Ct l G m_X1_offer [.ref a0] h Q := by
  refine z_Ct.of (ls := [some (.ref a0)]) hst rfl (by show plainName yX1_offer.cls = true; decide +kernel) (z_le rfl) rfl ?_
  show z_V l G m_X1_offer (z_Fm G m_X1_offer Q) 0 0 h 0 [some (.ref a0)] []
  refine z_aload_n (q := 1) (i := 0) (x := a0) dX1_offer_0 rfl rfl rfl ?_
  obtain ⟨g_1, hf⟩ := hf
  refine z_get 0 10 (q := 4) (v := .ref (a0 + 53)) rfl (z_lt rfl) (z_L0_T g_1) q516 dX1_offer_1 rfl (z_fvR (fun _ _ _ => rfl) (z_L0_P10 g_1)) ?_
  refine z_iconst (q := 5) (v := 0) dX1_offer_4 rfl rfl ?_
  refine z_aload_n (q := 6) (i := 0) (x := a0) dX1_offer_5 rfl rfl rfl ?_
  refine z_get 0 6 (q := 9) (v := .ref (a0 + 23)) rfl (z_lt rfl) (z_L0_T g_1) q512 dX1_offer_6 rfl (z_fvR (fun _ _ _ => rfl) (z_L0_P6 g_1)) ?_
  refine z_getN 9 6 (q := 12) (v := .int (h.I (a0 + 23) 6)) rfl (z_lt rfl) (z_L9_T (z_L0_N6 g_1)) (z_nwm q387 rfl) dX1_offer_9 rfl rfl ?_
  refine z_aload_n (q := 13) (i := 0) (x := a0) dX1_offer_12 rfl rfl rfl ?_
  refine z_get 0 6 (q := 16) (v := .ref (a0 + 23)) rfl (z_lt rfl) (z_L0_T g_1) q512 dX1_offer_13 rfl (z_fvR (fun _ _ _ => rfl) (z_L0_P6 g_1)) ?_
  refine z_getN 9 7 (q := 19) (v := .int (h.I (a0 + 23) 7)) rfl (z_lt rfl) (z_L9_T (z_L0_N6 g_1)) (z_nwm q390 rfl) dX1_offer_16 rfl rfl ?_
  refine z_isub (q := 20) dX1_offer_19 rfl ?_
  obtain ⟨g_2, hf⟩ := hf
  refine z_iast (q := 21) (n := 4) (z_L0_A10 g_1) g_2 dX1_offer_20 rfl ?_
  refine z_aload_n (q := 22) (i := 0) (x := a0) dX1_offer_21 rfl rfl rfl ?_
  refine z_get 0 10 (q := 25) (v := .ref (a0 + 53)) rfl (z_lt rfl) (z_L0_T g_1) q516 dX1_offer_22 rfl (z_fvR (fun _ _ _ => rfl) (z_L0_P10 g_1)) ?_
  refine z_iconst (q := 26) (v := 1) dX1_offer_25 rfl rfl ?_
  refine z_aload_n (q := 27) (i := 0) (x := a0) dX1_offer_26 rfl rfl rfl ?_
  refine z_get 0 6 (q := 30) (v := .ref (a0 + 23)) rfl (z_lt rfl) (z_L0_T g_1) q512 dX1_offer_27 rfl (z_fvR (fun _ _ _ => rfl) (z_L0_P6 g_1)) ?_
  refine z_iconst (q := 31) (v := 0) dX1_offer_30 rfl rfl ?_
  refine z_aload_n (q := 32) (i := 0) (x := a0) dX1_offer_31 rfl rfl rfl ?_
  obtain ⟨b_3, g_4, hf⟩ := hf
  refine z_get 0 4 (q := 35) (v := .ref b_3) rfl (z_lt rfl) (z_L0_T g_1) q510 dX1_offer_32 rfl (z_fvR (fun _ _ _ => rfl) g_4) ?_
  obtain ⟨g_5, hf⟩ := hf
  refine z_getN 8 1 (q := 38) (v := .ref (b_3 + 3)) rfl (z_lt rfl) (z_L8_T g_5) (z_nwm q334 rfl) dX1_offer_35 rfl (z_fvR (fun _ _ _ => rfl) (z_L8_P1 g_5)) ?_
  refine z_cVi m_X11_worth [.int 0, .ref (b_3 + 3)] ((a0 + 23)) (q := 41) (rc2 := 0) (rs2 := 0) (st := [.int 1, .ref (a0 + 53)]) dX1_offer_38 rfl q1494 oV_X11_worth rfl rfl ⟨z_le rfl, z_le rfl⟩ (z_le rfl) (z_rcv_of 9 rfl (z_L9_T (z_L0_N6 g_1)) rfl) rfl  rfl hf (fun x_6 h_7 hf => ?_)
  refine z_aload_n (q := 42) (i := 0) (x := a0) dX1_offer_41 rfl rfl rfl ?_
  obtain ⟨g_8, hf⟩ := hf
  refine z_get 0 6 (q := 45) (v := .ref (a0 + 23)) rfl (z_lt rfl) (z_L0_T g_8) q512 dX1_offer_42 rfl (z_fvR (fun _ _ _ => rfl) (z_L0_P6 g_8)) ?_
  refine z_iconst (q := 46) (v := 1) dX1_offer_45 rfl rfl ?_
  refine z_aload_n (q := 47) (i := 0) (x := a0) dX1_offer_46 rfl rfl rfl ?_
  obtain ⟨b_9, g_10, hf⟩ := hf
  refine z_get 0 4 (q := 50) (v := .ref b_9) rfl (z_lt rfl) (z_L0_T g_8) q510 dX1_offer_47 rfl (z_fvR (fun _ _ _ => rfl) g_10) ?_
  obtain ⟨g_11, hf⟩ := hf
  refine z_getN 8 1 (q := 53) (v := .ref (b_9 + 3)) rfl (z_lt rfl) (z_L8_T g_11) (z_nwm q334 rfl) dX1_offer_50 rfl (z_fvR (fun _ _ _ => rfl) (z_L8_P1 g_11)) ?_
  refine z_cVi m_X11_worth [.int 1, .ref (b_9 + 3)] ((a0 + 23)) (q := 56) (rc2 := 0) (rs2 := 0) (st := [.int x_6, .int 1, .ref (a0 + 53)]) dX1_offer_53 rfl q1494 oV_X11_worth rfl rfl ⟨z_le rfl, z_le rfl⟩ (z_le rfl) (z_rcv_of 9 rfl (z_L9_T (z_L0_N6 g_8)) rfl) rfl  rfl hf (fun x_12 h_13 hf => ?_)
  refine z_isub (q := 57) dX1_offer_56 rfl ?_
  obtain ⟨n_14, g_15, hf⟩ := hf
  obtain ⟨g_16, hf⟩ := hf
  refine z_iast (q := 58) (n := n_14) g_15 g_16 dX1_offer_57 rfl ?_
  refine z_aload_n (q := 59) (i := 0) (x := a0) dX1_offer_58 rfl rfl rfl ?_
  obtain ⟨g_17, hf⟩ := hf
  refine z_get 0 10 (q := 62) (v := .ref (a0 + 53)) rfl (z_lt rfl) (z_L0_T g_17) q516 dX1_offer_59 rfl (z_fvR (fun _ _ _ => rfl) (z_L0_P10 g_17)) ?_
  refine z_iconst (q := 63) (v := 2) dX1_offer_62 rfl rfl ?_
  refine z_aload_n (q := 64) (i := 0) (x := a0) dX1_offer_63 rfl rfl rfl ?_
  refine z_get 0 6 (q := 67) (v := .ref (a0 + 23)) rfl (z_lt rfl) (z_L0_T g_17) q512 dX1_offer_64 rfl (z_fvR (fun _ _ _ => rfl) (z_L0_P6 g_17)) ?_
  refine z_getN 9 14 (q := 70) (v := .int (h_13.I (a0 + 23) 14)) rfl (z_lt rfl) (z_L9_T (z_L0_N6 g_17)) (z_nwm q408 rfl) dX1_offer_67 rfl (congrArg Value.int (z_rIa (by omega))) ?_
  obtain ⟨g_18, hf⟩ := hf
  refine z_iast (q := 71) (n := 4) (z_L0_A10 g_17) g_18 dX1_offer_70 rfl ?_
  refine z_aload_n (q := 72) (i := 0) (x := a0) dX1_offer_71 rfl rfl rfl ?_
  refine z_get 0 10 (q := 75) (v := .ref (a0 + 53)) rfl (z_lt rfl) (z_L0_T g_17) q516 dX1_offer_72 rfl (z_fvR (fun _ _ _ => rfl) (z_L0_P10 g_17)) ?_
  refine z_iconst (q := 76) (v := 3) dX1_offer_75 rfl rfl ?_
  refine z_aload_n (q := 77) (i := 0) (x := a0) dX1_offer_76 rfl rfl rfl ?_
  refine z_get 0 6 (q := 80) (v := .ref (a0 + 23)) rfl (z_lt rfl) (z_L0_T g_17) q512 dX1_offer_77 rfl (z_fvR (fun _ _ _ => rfl) (z_L0_P6 g_17)) ?_
  refine z_getN 9 13 (q := 83) (v := .int (h_13.I (a0 + 23) 13)) rfl (z_lt rfl) (z_L9_T (z_L0_N6 g_17)) (z_nwm q405 rfl) dX1_offer_80 rfl (congrArg Value.int (Eq.trans (z_rIa (by omega)) (z_rIa (by omega)))) ?_
  obtain ⟨g_19, hf⟩ := hf
  refine z_iast (q := 84) (n := 4) (z_L0_A10 g_17) g_19 dX1_offer_83 rfl ?_
  refine z_aload_n (q := 85) (i := 0) (x := a0) dX1_offer_84 rfl rfl rfl ?_
  obtain ⟨b_20, g_21, hf⟩ := hf
  refine z_get 0 4 (q := 88) (v := .ref b_20) rfl (z_lt rfl) (z_L0_T g_17) q510 dX1_offer_85 rfl (z_fvR (fun _ _ _ => rfl) g_21) ?_
  obtain ⟨g_22, hf⟩ := hf
  refine z_getN 8 6 (q := 91) (v := va_rf (h_13.P b_20 6)) rfl (z_lt rfl) (z_L8_T g_22) (z_nwm q346 rfl) dX1_offer_88 rfl rfl ?_
  rcases z_nn (h_13.P b_20 6) with hn | ⟨b_23, g_24⟩
  · have hf := hf.1 hn
    refine z_topq hn ?_
    refine z_ifnonnullN (q := 94) dX1_offer_91 rfl ?_
    refine z_bipush (q := 96) (v := 10) dX1_offer_94 (by decide) rfl ?_
    refine z_goto (q := 122) dX1_offer_96 rfl ?_
    exact z_iret dX1_offer_122 rfl hf
  · have hf := hf.2 b_23 g_24
    refine z_topq g_24 ?_
    refine z_ifnonnull (q := 99) dX1_offer_91 rfl ?_
    refine z_iconst (q := 100) (v := 0) dX1_offer_99 rfl rfl ?_
    refine z_bipush (q := 102) (v := 99) dX1_offer_100 (by decide) rfl ?_
    refine z_aload_n (q := 103) (i := 0) (x := a0) dX1_offer_102 rfl rfl rfl ?_
    obtain ⟨b_25, g_26, hf⟩ := hf
    refine z_get 0 4 (q := 106) (v := .ref b_25) rfl (z_lt rfl) (z_L0_T g_17) q510 dX1_offer_103 rfl (z_fvR (fun _ _ _ => rfl) g_26) ?_
    obtain ⟨g_27, hf⟩ := hf
    obtain ⟨b_28, g_29, hf⟩ := hf
    refine z_getN 8 6 (q := 109) (v := .ref b_28) rfl (z_lt rfl) (z_L8_T g_27) (z_nwm q346 rfl) dX1_offer_106 rfl (z_fvR (fun _ _ _ => rfl) g_29) ?_
    refine z_aload_n (q := 110) (i := 0) (x := a0) dX1_offer_109 rfl rfl rfl ?_
    refine z_get 0 10 (q := 113) (v := .ref (a0 + 53)) rfl (z_lt rfl) (z_L0_T g_17) q516 dX1_offer_110 rfl (z_fvR (fun _ _ _ => rfl) (z_L0_P10 g_17)) ?_
    refine z_iworked_call (d := 1010) (q := 116) (st := [.int 99, .int 0]) dX1_offer_113 rfl q1531 hf rfl rfl (z_le rfl) (z_le rfl) (z_le rfl) (fun x_31 h_30 hf => ?_)
    refine z_cSi m_J5_min [.int 99, .int x_31] (q := 119) (rc2 := 0) (rs2 := 0) (st := [.int 0]) dX1_offer_116 rfl q1548 oS_J5_min rfl rfl ⟨z_le rfl, z_le rfl⟩ (z_le rfl) rfl  rfl hf (fun x_32 h_33 hf => ?_)
    refine z_cSi m_J5_max [.int 0, .int x_32] (q := 122) (rc2 := 0) (rs2 := 0) (st := []) dX1_offer_119 rfl q1549 oS_J5_max rfl rfl ⟨z_le rfl, z_le rfl⟩ (z_le rfl) rfl  rfl hf (fun x_34 h_35 hf => ?_)
    exact z_iret dX1_offer_122 rfl hf

theorem u_X1_opening {l : Launch} {G : z_G} {a0 : Nat} {x1 : Int32} {h : z_H} {Q : z_Q} (hst : l.stackTraces = false)  (hf : z_Ct l G m_X1_in [.int x1, .int 0, .int 3] h (z_Qi (fun x_1 h_2 => (x_1 = 0 → Q (some (.int (-1))) h_2) ∧ (¬ x_1 = 0 → z_V l G m_X1_opening (z_Fm G m_X1_opening Q) 0 0 h_2 15 [some (.ref a0), some (.int x1), some (.int 0), some (.int 0), none] [])))) : z_Ct l G m_X1_opening [.ref a0, .int x1] h Q := by
  refine z_Ct.of (ls := [some (.ref a0), some (.int x1), none, none, none]) hst rfl (by show plainName yX1_opening.cls = true; decide +kernel) (z_le rfl) rfl ?_
  show z_V l G m_X1_opening (z_Fm G m_X1_opening Q) 0 0 h 0 [some (.ref a0), some (.int x1), none, none, none] []
  refine z_iload_n (q := 1) (i := 1) (x := x1) dX1_opening_0 rfl rfl rfl ?_
  refine z_iconst (q := 2) (v := 0) dX1_opening_1 rfl rfl ?_
  refine z_iconst (q := 3) (v := 3) dX1_opening_2 rfl rfl ?_
  refine z_cSi m_X1_in [.int x1, .int 0, .int 3] (q := 6) (rc2 := 0) (rs2 := 0) (st := []) dX1_opening_3 rfl q1259 oS_X1_in rfl rfl ⟨z_le rfl, z_le rfl⟩ (z_le rfl) rfl  rfl hf (fun x_1 h_2 hf => ?_)
  refine z_if_ne (q := 9) (tgt := 11) dX1_opening_6 rfl rfl (fun hc => ?_) (fun hc => ?_)
  · have hf := hf.2 hc
    refine z_iconst (q := 12) (v := 0) dX1_opening_11 rfl rfl ?_
    refine z_istore_n (q := 13) (i := 2) (ls2 := [some (.ref a0), some (.int x1), some (.int 0), none, none]) (x := 0) dX1_opening_12 rfl (z_lt rfl) rfl rfl ?_
    refine z_iconst (q := 14) (v := 0) dX1_opening_13 rfl rfl ?_
    refine z_istore_n (q := 15) (i := 3) (ls2 := [some (.ref a0), some (.int x1), some (.int 0), some (.int 0), none]) (x := 0) dX1_opening_14 rfl (z_lt rfl) rfl rfl ?_
    exact hf
  · have hf := hf.1 hc
    refine z_iconst (q := 10) (v := (-1)) dX1_opening_9 rfl rfl ?_
    exact z_iret dX1_opening_10 rfl hf

theorem b_X1_opening_15 {l : Launch} {G : z_G} {a0 : Nat} {x1 : Int32} {x2 : Int32} {x3 : Int32} {h : z_H} {Q : z_Q}  (hf : z_L0 h a0 ∧ ∃ b_2, (h.P a0 5) = some b_2 ∧ (h.T b_2).1 = 31 ∧ z_Ct l G m_J2_size [.ref b_2] h (z_Qi (fun x_5 h_6 => (x_5 ≤ x3 → Q (some (.int x2)) h_6) ∧ (¬ x_5 ≤ x3 → z_L0 h_6 a0 ∧ ∃ b_8, (h_6.P a0 5) = some b_8 ∧ (h_6.T b_8).1 = 31 ∧ z_Ct l G m_J2_get [.ref b_8, .int x3] h_6 (z_Qr (fun b_11 h_12 => z_L17 h_12 b_11 ∧ z_L0 h_12 a0 ∧ z_Ct l G m_X1_begins_2 [.ref (b_11 + 1), .ref (a0 + 49)] h_12 (z_Qi (fun x_15 h_16 => (x_15 = 0 → z_V l G m_X1_opening (z_Fm G m_X1_opening Q) 0 0 h_16 15 [some (.ref a0), some (.int x1), some (.int x2), some (.int (x3 + 1)), none] []) ∧ (¬ x_15 = 0 → z_L17 h_16 b_11 ∧ z_L0 h_16 a0 ∧ z_Ct l G m_X1_begins_2 [.ref (b_11 + 3), .ref (a0 + 51)] h_16 (z_Qi (fun x_19 h_20 => (x_19 = 0 → z_V l G m_X1_opening (z_Fm G m_X1_opening Q) 0 0 h_20 15 [some (.ref a0), some (.int x1), some (.int x2), some (.int (x3 + 1)), none] []) ∧ (¬ x_19 = 0 → (x1 = 0 → z_V l G m_X1_opening (z_Fm G m_X1_opening Q) 0 0 h_20 15 [some (.ref a0), some (.int x1), some (.int (x2 + 1)), some (.int (x3 + 1)), none] []) ∧ (¬ x1 = 0 → z_L17 h_20 b_11 ∧ ((h_20.I b_11 2) = (x1 - 1) → z_V l G m_X1_opening (z_Fm G m_X1_opening Q) 0 0 h_20 15 [some (.ref a0), some (.int x1), some (.int (x2 + 1)), some (.int (x3 + 1)), none] []) ∧ (¬ (h_20.I b_11 2) = (x1 - 1) → z_V l G m_X1_opening (z_Fm G m_X1_opening Q) 0 0 h_20 15 [some (.ref a0), some (.int x1), some (.int x2), some (.int (x3 + 1)), none] [])))))))))))))) : z_V l G m_X1_opening (z_Fm G m_X1_opening Q) 0 0 h 15 [some (.ref a0), some (.int x1), some (.int x2), some (.int x3), none] [] := by
  refine z_iload_n (q := 16) (i := 3) (x := x3) dX1_opening_15 rfl rfl rfl ?_
  refine z_aload_n (q := 17) (i := 0) (x := a0) dX1_opening_16 rfl rfl rfl ?_
  obtain ⟨g_1, hf⟩ := hf
  obtain ⟨b_2, g_3, hf⟩ := hf
  refine z_get 0 5 (q := 20) (v := .ref b_2) rfl (z_lt rfl) (z_L0_T g_1) q511 dX1_opening_17 rfl (z_fvR (fun _ _ _ => rfl) g_3) ?_
  obtain ⟨g_4, hf⟩ := hf
  refine z_cVi m_J2_size [] (b_2) (q := 23) (rc2 := 0) (rs2 := 0) (st := [.int x3]) dX1_opening_20 rfl q1258 oV_J2_size rfl rfl ⟨z_le rfl, z_le rfl⟩ (z_le rfl) (z_rcv_of 21 rfl g_4 rfl) rfl  rfl hf (fun x_5 h_6 hf => ?_)
  refine z_icmp_ge (q := 26) (tgt := 93) dX1_opening_23 rfl rfl (fun hc => ?_) (fun hc => ?_)
  · have hf := hf.1 hc
    refine z_iload_n (q := 94) (i := 2) (x := x2) dX1_opening_93 rfl rfl rfl ?_
    exact z_iret dX1_opening_94 rfl hf
  · have hf := hf.2 hc
    refine z_aload_n (q := 27) (i := 0) (x := a0) dX1_opening_26 rfl rfl rfl ?_
    obtain ⟨g_7, hf⟩ := hf
    obtain ⟨b_8, g_9, hf⟩ := hf
    refine z_get 0 5 (q := 30) (v := .ref b_8) rfl (z_lt rfl) (z_L0_T g_7) q511 dX1_opening_27 rfl (z_fvR (fun _ _ _ => rfl) g_9) ?_
    refine z_iload_n (q := 31) (i := 3) (x := x3) dX1_opening_30 rfl rfl rfl ?_
    obtain ⟨g_10, hf⟩ := hf
    refine z_cVr m_J2_get [.int x3] (b_8) (q := 34) (rc2 := 0) (rs2 := 0) (st := []) dX1_opening_31 rfl q1285 oV_J2_get rfl rfl ⟨z_le rfl, z_le rfl⟩ (z_le rfl) (z_rcv_of 21 rfl g_10 rfl) rfl  rfl hf (fun b_11 h_12 hf => ?_)
    obtain ⟨g_13, hf⟩ := hf
    refine z_cast (C0 := "BeggarHeaps$Opening") (nm := "BeggarHeaps$Opening") (z_rcv_of 17 rfl (z_L17_T g_13) rfl) (Or.inl rfl) q1605 dX1_opening_34 rfl ?_
    refine z_astore (q := 39) (i := 4) (ls2 := [some (.ref a0), some (.int x1), some (.int x2), some (.int x3), some (.ref b_11)]) (x := b_11) dX1_opening_37 (z_lt rfl) rfl rfl ?_
    refine z_aload (q := 41) (i := 4) (x := b_11) dX1_opening_39 rfl rfl ?_
    refine z_getN 17 0 (q := 44) (v := .ref (b_11 + 1)) rfl (z_lt rfl) (z_L17_T g_13) (z_nwm q1228 rfl) dX1_opening_41 rfl (z_fvR (fun _ _ _ => rfl) (z_L17_P0 g_13)) ?_
    refine z_aload_n (q := 45) (i := 0) (x := a0) dX1_opening_44 rfl rfl rfl ?_
    obtain ⟨g_14, hf⟩ := hf
    refine z_get 0 8 (q := 48) (v := .ref (a0 + 49)) rfl (z_lt rfl) (z_L0_T g_14) q514 dX1_opening_45 rfl (z_fvR (fun _ _ _ => rfl) (z_L0_P8 g_14)) ?_
    refine z_cSi m_X1_begins_2 [.ref (b_11 + 1), .ref (a0 + 49)] (q := 51) (rc2 := 0) (rs2 := 0) (st := []) dX1_opening_48 rfl q1606 oS_X1_begins_2 rfl rfl ⟨z_le rfl, z_le rfl⟩ (z_le rfl) rfl  rfl hf (fun x_15 h_16 hf => ?_)
    refine z_if_eq (q := 54) (tgt := 87) dX1_opening_51 rfl rfl (fun hc => ?_) (fun hc => ?_)
    · have hf := hf.1 hc
      refine z_iinc (q := 90) (i := 3) (x := x3) (v := (x3 + 1)) (ls2 := [some (.ref a0), some (.int x1), some (.int x2), some (.int (x3 + 1)), some (.ref b_11)]) dX1_opening_87 rfl rfl (z_lt rfl) rfl rfl ?_
      refine z_goto (q := 15) dX1_opening_90 rfl ?_
      refine z_prune [true, true, true, true, false] (ls2 := [some (.ref a0), some (.int x1), some (.int x2), some (.int (x3 + 1)), none]) rfl ?_
      exact hf
    · have hf := hf.2 hc
      refine z_aload (q := 56) (i := 4) (x := b_11) dX1_opening_54 rfl rfl ?_
      obtain ⟨g_17, hf⟩ := hf
      refine z_getN 17 1 (q := 59) (v := .ref (b_11 + 3)) rfl (z_lt rfl) (z_L17_T g_17) (z_nwm q1231 rfl) dX1_opening_56 rfl (z_fvR (fun _ _ _ => rfl) (z_L17_P1 g_17)) ?_
      refine z_aload_n (q := 60) (i := 0) (x := a0) dX1_opening_59 rfl rfl rfl ?_
      obtain ⟨g_18, hf⟩ := hf
      refine z_get 0 9 (q := 63) (v := .ref (a0 + 51)) rfl (z_lt rfl) (z_L0_T g_18) q515 dX1_opening_60 rfl (z_fvR (fun _ _ _ => rfl) (z_L0_P9 g_18)) ?_
      refine z_cSi m_X1_begins_2 [.ref (b_11 + 3), .ref (a0 + 51)] (q := 66) (rc2 := 0) (rs2 := 0) (st := []) dX1_opening_63 rfl q1606 oS_X1_begins_2 rfl rfl ⟨z_le rfl, z_le rfl⟩ (z_le rfl) rfl  rfl hf (fun x_19 h_20 hf => ?_)
      refine z_if_eq (q := 69) (tgt := 87) dX1_opening_66 rfl rfl (fun hc => ?_) (fun hc => ?_)
      · have hf := hf.1 hc
        refine z_iinc (q := 90) (i := 3) (x := x3) (v := (x3 + 1)) (ls2 := [some (.ref a0), some (.int x1), some (.int x2), some (.int (x3 + 1)), some (.ref b_11)]) dX1_opening_87 rfl rfl (z_lt rfl) rfl rfl ?_
        refine z_goto (q := 15) dX1_opening_90 rfl ?_
        refine z_prune [true, true, true, true, false] (ls2 := [some (.ref a0), some (.int x1), some (.int x2), some (.int (x3 + 1)), none]) rfl ?_
        exact hf
      · have hf := hf.2 hc
        refine z_iload_n (q := 70) (i := 1) (x := x1) dX1_opening_69 rfl rfl rfl ?_
        refine z_if_eq (q := 73) (tgt := 84) dX1_opening_70 rfl rfl (fun hc => ?_) (fun hc => ?_)
        · have hf := hf.1 hc
          refine z_iinc (q := 87) (i := 2) (x := x2) (v := (x2 + 1)) (ls2 := [some (.ref a0), some (.int x1), some (.int (x2 + 1)), some (.int x3), some (.ref b_11)]) dX1_opening_84 rfl rfl (z_lt rfl) rfl rfl ?_
          refine z_iinc (q := 90) (i := 3) (x := x3) (v := (x3 + 1)) (ls2 := [some (.ref a0), some (.int x1), some (.int (x2 + 1)), some (.int (x3 + 1)), some (.ref b_11)]) dX1_opening_87 rfl rfl (z_lt rfl) rfl rfl ?_
          refine z_goto (q := 15) dX1_opening_90 rfl ?_
          refine z_prune [true, true, true, true, false] (ls2 := [some (.ref a0), some (.int x1), some (.int (x2 + 1)), some (.int (x3 + 1)), none]) rfl ?_
          exact hf
        · have hf := hf.2 hc
          refine z_aload (q := 75) (i := 4) (x := b_11) dX1_opening_73 rfl rfl ?_
          obtain ⟨g_21, hf⟩ := hf
          refine z_getN 17 2 (q := 78) (v := .int (h_20.I b_11 2)) rfl (z_lt rfl) (z_L17_T g_21) (z_nwm q1233 rfl) dX1_opening_75 rfl rfl ?_
          refine z_iload_n (q := 79) (i := 1) (x := x1) dX1_opening_78 rfl rfl rfl ?_
          refine z_iconst (q := 80) (v := 1) dX1_opening_79 rfl rfl ?_
          refine z_isub (q := 81) dX1_opening_80 rfl ?_
          refine z_icmp_ne (q := 84) (tgt := 87) dX1_opening_81 rfl rfl (fun hc => ?_) (fun hc => ?_)
          · have hf := hf.2 hc
            refine z_iinc (q := 90) (i := 3) (x := x3) (v := (x3 + 1)) (ls2 := [some (.ref a0), some (.int x1), some (.int x2), some (.int (x3 + 1)), some (.ref b_11)]) dX1_opening_87 rfl rfl (z_lt rfl) rfl rfl ?_
            refine z_goto (q := 15) dX1_opening_90 rfl ?_
            refine z_prune [true, true, true, true, false] (ls2 := [some (.ref a0), some (.int x1), some (.int x2), some (.int (x3 + 1)), none]) rfl ?_
            exact hf
          · have hf := hf.1 hc
            refine z_iinc (q := 87) (i := 2) (x := x2) (v := (x2 + 1)) (ls2 := [some (.ref a0), some (.int x1), some (.int (x2 + 1)), some (.int x3), some (.ref b_11)]) dX1_opening_84 rfl rfl (z_lt rfl) rfl rfl ?_
            refine z_iinc (q := 90) (i := 3) (x := x3) (v := (x3 + 1)) (ls2 := [some (.ref a0), some (.int x1), some (.int (x2 + 1)), some (.int (x3 + 1)), some (.ref b_11)]) dX1_opening_87 rfl rfl (z_lt rfl) rfl rfl ?_
            refine z_goto (q := 15) dX1_opening_90 rfl ?_
            refine z_prune [true, true, true, true, false] (ls2 := [some (.ref a0), some (.int x1), some (.int (x2 + 1)), some (.int (x3 + 1)), none]) rfl ?_
            exact hf

theorem u_X1_orders {l : Launch} {G : z_G} {a0 : Nat} {h : z_H} {Q : z_Q} {X : z_QX} (hst : l.stackTraces = false)  (hf : z_L0 h a0 ∧ z_Cz l G m_X1_need [.int (if (h.I (a0 + 23) 21) ≤ 0 then 0 else 1)] h (z_Qv (fun h_2 => z_V l G m_X1_orders (z_Fx G m_X1_orders Q X) 0 2 (h_2.nw (1, 48)) 27 [some (.ref a0), some (.int 0), some (.ref (h_2.n)), some (.int 0), none, none] [])) X) : z_Cz l G m_X1_orders [.ref a0] h Q X := by
  refine z_Cz.of (ls := [some (.ref a0), none, none, none, none, none]) hst rfl (by show plainName yX1_orders.cls = true; decide +kernel) (z_le rfl) rfl ?_
  show z_V l G m_X1_orders (z_Fx G m_X1_orders Q X) 8 80 h 0 [some (.ref a0), none, none, none, none, none] []
  refine z_aload_n (q := 1) (i := 0) (x := a0) dX1_orders_0 rfl rfl rfl ?_
  obtain ⟨g_1, hf⟩ := hf
  refine z_get 0 6 (q := 4) (v := .ref (a0 + 23)) rfl (z_lt rfl) (z_L0_T g_1) q512 dX1_orders_1 rfl (z_fvR (fun _ _ _ => rfl) (z_L0_P6 g_1)) ?_
  refine z_getN 9 21 (q := 7) (v := .int (h.I (a0 + 23) 21)) rfl (z_lt rfl) (z_L9_T (z_L0_N6 g_1)) (z_nwm q422 rfl) dX1_orders_4 rfl rfl ?_
  have hk : z_V l G m_X1_orders (z_Fx G m_X1_orders Q X) 8 80 h 15 [some (.ref a0), none, none, none, none, none] [.int (if (h.I (a0 + 23) 21) ≤ 0 then 0 else 1)] := by
    refine z_cSXv m_X1_need [.int (if (h.I (a0 + 23) 21) ≤ 0 then 0 else 1)] (q := 18) (rc2 := 1) (rs2 := 50) (st := []) dX1_orders_15 rfl q1683 oS_X1_need rfl rfl ⟨z_le rfl, z_le rfl⟩ (z_le rfl) rfl  rfl hf (fun C0 x h1 hX => z_out rfl hX) (fun h_2 hf => ?_)
    refine z_iconst (q := 19) (v := 0) dX1_orders_18 rfl rfl ?_
    refine z_istore_n (q := 20) (i := 1) (ls2 := [some (.ref a0), some (.int 0), none, none, none, none]) (x := 0) dX1_orders_19 rfl (z_lt rfl) rfl rfl ?_
    refine z_bipush (q := 22) (v := 48) dX1_orders_20 (by decide) rfl ?_
    refine z_newa 1 (q := 24) (N := 48) (rc2 := 0) (rs2 := 2) (z_lt rfl) (z_lt rfl) rfl q295 (by decide) rfl (z_le rfl) dX1_orders_22 rfl rfl rfl ?_
    refine z_astore_n (q := 25) (i := 2) (ls2 := [some (.ref a0), some (.int 0), some (.ref (h_2.n)), none, none, none]) (x := (h_2.n)) dX1_orders_24 rfl (z_lt rfl) rfl rfl ?_
    refine z_iconst (q := 26) (v := 0) dX1_orders_25 rfl rfl ?_
    refine z_istore_n (q := 27) (i := 3) (ls2 := [some (.ref a0), some (.int 0), some (.ref (h_2.n)), some (.int 0), none, none]) (x := 0) dX1_orders_26 rfl (z_lt rfl) rfl rfl ?_
    exact hf
  refine z_if_le (q := 10) (tgt := 14) dX1_orders_7 rfl rfl (fun hc => ?_) (fun hc => ?_)
  · have hk := (z_ite hk).1 hc
    refine z_iconst (q := 15) (v := 0) dX1_orders_14 rfl rfl ?_
    exact hk
  · have hk := (z_ite hk).2 hc
    refine z_iconst (q := 11) (v := 1) dX1_orders_10 rfl rfl ?_
    refine z_goto (q := 15) dX1_orders_11 rfl ?_
    exact hk

theorem b_X1_orders_27 {l : Launch} {G : z_G} {rc rs : Nat} {a0 : Nat} {x1 : Int32} {a2 : Nat} {x3 : Int32} {h : z_H} {Q : z_Q} {X : z_QX}  (hf : (5 ≤ x3 → Q (some (.int x1)) h) ∧ (¬ 5 ≤ x3 → z_L0 h a0 ∧ vp_in x3 5 ∧ ∃ b_3, (h.P (a0 + 3) (Int32.toNatClampNeg x3)) = some b_3 ∧ ∃ b_5, (h.P a0 4) = some b_5 ∧ z_L8 h b_5 ∧ z_ilays l G [.ref b_3, .ref (a0 + 34), .int (h.I (a0 + 23) 21), .ref (b_5 + 3), .ref a2] h (z_Qv (fun h_8 => z_V l G m_X1_orders (z_Fx G m_X1_orders Q X) rc rs h_8 69 [some (.ref a0), some (.int x1), some (.ref a2), some (.int x3), some (.int 1), some (.int 0)] [])))) : z_V l G m_X1_orders (z_Fx G m_X1_orders Q X) rc rs h 27 [some (.ref a0), some (.int x1), some (.ref a2), some (.int x3), none, none] [] := by
  refine z_iload_n (q := 28) (i := 3) (x := x3) dX1_orders_27 rfl rfl rfl ?_
  refine z_iconst (q := 29) (v := 5) dX1_orders_28 rfl rfl ?_
  refine z_icmp_ge (q := 32) (tgt := 133) dX1_orders_29 rfl rfl (fun hc => ?_) (fun hc => ?_)
  · have hf := hf.1 hc
    refine z_iload_n (q := 134) (i := 1) (x := x1) dX1_orders_133 rfl rfl rfl ?_
    refine z_V.x ?_
    exact z_iret dX1_orders_134 rfl hf
  · have hf := hf.2 hc
    refine z_aload_n (q := 33) (i := 0) (x := a0) dX1_orders_32 rfl rfl rfl ?_
    obtain ⟨g_1, hf⟩ := hf
    refine z_get 0 2 (q := 36) (v := .ref (a0 + 3)) rfl (z_lt rfl) (z_L0_T g_1) q507 dX1_orders_33 rfl (z_fvR (fun _ _ _ => rfl) (z_L0_P2 g_1)) ?_
    refine z_iload_n (q := 37) (i := 3) (x := x3) dX1_orders_36 rfl rfl rfl ?_
    obtain ⟨g_2, hf⟩ := hf
    obtain ⟨b_3, g_4, hf⟩ := hf
    refine z_aald (q := 38) (n := 5) (v := .ref b_3) (z_L0_A2 g_1) (by decide) g_2 dX1_orders_37 rfl (z_rfR g_4) ?_
    refine z_aload_n (q := 39) (i := 0) (x := a0) dX1_orders_38 rfl rfl rfl ?_
    refine z_get 0 6 (q := 42) (v := .ref (a0 + 23)) rfl (z_lt rfl) (z_L0_T g_1) q512 dX1_orders_39 rfl (z_fvR (fun _ _ _ => rfl) (z_L0_P6 g_1)) ?_
    refine z_getN 9 19 (q := 45) (v := .ref (a0 + 34)) rfl (z_lt rfl) (z_L9_T (z_L0_N6 g_1)) (z_nwm q418 rfl) dX1_orders_42 rfl (z_fvR (fun _ _ _ => rfl) (z_L9_P19 (z_L0_N6 g_1))) ?_
    refine z_aload_n (q := 46) (i := 0) (x := a0) dX1_orders_45 rfl rfl rfl ?_
    refine z_get 0 6 (q := 49) (v := .ref (a0 + 23)) rfl (z_lt rfl) (z_L0_T g_1) q512 dX1_orders_46 rfl (z_fvR (fun _ _ _ => rfl) (z_L0_P6 g_1)) ?_
    refine z_getN 9 21 (q := 52) (v := .int (h.I (a0 + 23) 21)) rfl (z_lt rfl) (z_L9_T (z_L0_N6 g_1)) (z_nwm q422 rfl) dX1_orders_49 rfl rfl ?_
    refine z_aload_n (q := 53) (i := 0) (x := a0) dX1_orders_52 rfl rfl rfl ?_
    obtain ⟨b_5, g_6, hf⟩ := hf
    refine z_get 0 4 (q := 56) (v := .ref b_5) rfl (z_lt rfl) (z_L0_T g_1) q510 dX1_orders_53 rfl (z_fvR (fun _ _ _ => rfl) g_6) ?_
    obtain ⟨g_7, hf⟩ := hf
    refine z_getN 8 1 (q := 59) (v := .ref (b_5 + 3)) rfl (z_lt rfl) (z_L8_T g_7) (z_nwm q334 rfl) dX1_orders_56 rfl (z_fvR (fun _ _ _ => rfl) (z_L8_P1 g_7)) ?_
    refine z_aload_n (q := 60) (i := 2) (x := a2) dX1_orders_59 rfl rfl rfl ?_
    refine z_ilays_call (q := 63) (st := []) dX1_orders_60 rfl q1707 hf rfl rfl (z_le rfl) (z_le rfl) (z_le rfl) (fun h_8 hf => ?_)
    refine z_iconst (q := 64) (v := 1) dX1_orders_63 rfl rfl ?_
    refine z_istore (q := 66) (i := 4) (ls2 := [some (.ref a0), some (.int x1), some (.ref a2), some (.int x3), some (.int 1), none]) (x := 1) dX1_orders_64 (z_lt rfl) rfl rfl ?_
    refine z_iconst (q := 67) (v := 0) dX1_orders_66 rfl rfl ?_
    refine z_istore (q := 69) (i := 5) (ls2 := [some (.ref a0), some (.int x1), some (.ref a2), some (.int x3), some (.int 1), some (.int 0)]) (x := 0) dX1_orders_67 (z_lt rfl) rfl rfl ?_
    exact hf

theorem b_X1_orders_69 {l : Launch} {G : z_G} {rc rs : Nat} {a0 : Nat} {x1 : Int32} {a2 : Nat} {x3 : Int32} {x4 : Int32} {x5 : Int32} {h : z_H} {Q : z_Q} {X : z_QX}  (hf : z_L0 h a0 ∧ ((h.I (a0 + 23) 22) ≤ x5 → (x4 = 0 → z_V l G m_X1_orders (z_Fx G m_X1_orders Q X) rc rs h 27 [some (.ref a0), some (.int x1), some (.ref a2), some (.int (x3 + 1)), none, none] []) ∧ (¬ x4 = 0 → ∀ v_2 : Int32, v_2 = (x1 ||| (1 <<< (x3 &&& 31))) → z_V l G m_X1_orders (z_Fx G m_X1_orders Q X) rc rs h 27 [some (.ref a0), some (.int v_2), some (.ref a2), some (.int (x3 + 1)), none, none] [])) ∧ (¬ (h.I (a0 + 23) 22) ≤ x5 → (x4 = 0 → z_V l G m_X1_orders (z_Fx G m_X1_orders Q X) rc rs h 69 [some (.ref a0), some (.int x1), some (.ref a2), some (.int x3), some (.int 0), some (.int (x5 + 1))] []) ∧ (¬ x4 = 0 → ∃ n_7, h.T a2 = (1, n_7) ∧ vp_in x5 n_7 ∧ vp_in x5 12 ∧ ∀ v_11 : Int32, v_11 = (if (h.I a2 (Int32.toNatClampNeg x5)) = (h.I (a0 + 35) (Int32.toNatClampNeg x5)) then 1 else 0) → z_V l G m_X1_orders (z_Fx G m_X1_orders Q X) rc rs h 69 [some (.ref a0), some (.int x1), some (.ref a2), some (.int x3), some (.int v_11), some (.int (x5 + 1))] []))) : z_V l G m_X1_orders (z_Fx G m_X1_orders Q X) rc rs h 69 [some (.ref a0), some (.int x1), some (.ref a2), some (.int x3), some (.int x4), some (.int x5)] [] := by
  refine z_iload (q := 71) (i := 5) (x := x5) dX1_orders_69 rfl rfl ?_
  refine z_aload_n (q := 72) (i := 0) (x := a0) dX1_orders_71 rfl rfl rfl ?_
  obtain ⟨g_1, hf⟩ := hf
  refine z_get 0 6 (q := 75) (v := .ref (a0 + 23)) rfl (z_lt rfl) (z_L0_T g_1) q512 dX1_orders_72 rfl (z_fvR (fun _ _ _ => rfl) (z_L0_P6 g_1)) ?_
  refine z_getN 9 22 (q := 78) (v := .int (h.I (a0 + 23) 22)) rfl (z_lt rfl) (z_L9_T (z_L0_N6 g_1)) (z_nwm q424 rfl) dX1_orders_75 rfl rfl ?_
  refine z_icmp_ge (q := 81) (tgt := 116) dX1_orders_78 rfl rfl (fun hc => ?_) (fun hc => ?_)
  · have hf := hf.1 hc
    refine z_iload (q := 118) (i := 4) (x := x4) dX1_orders_116 rfl rfl ?_
    refine z_if_eq (q := 121) (tgt := 127) dX1_orders_118 rfl rfl (fun hc => ?_) (fun hc => ?_)
    · have hf := hf.1 hc
      refine z_iinc (q := 130) (i := 3) (x := x3) (v := (x3 + 1)) (ls2 := [some (.ref a0), some (.int x1), some (.ref a2), some (.int (x3 + 1)), some (.int x4), some (.int x5)]) dX1_orders_127 rfl rfl (z_lt rfl) rfl rfl ?_
      refine z_goto (q := 27) dX1_orders_130 rfl ?_
      refine z_prune [true, true, true, true, false, false] (ls2 := [some (.ref a0), some (.int x1), some (.ref a2), some (.int (x3 + 1)), none, none]) rfl ?_
      exact hf
    · have hf := hf.2 hc
      refine z_iload_n (q := 122) (i := 1) (x := x1) dX1_orders_121 rfl rfl rfl ?_
      refine z_iconst (q := 123) (v := 1) dX1_orders_122 rfl rfl ?_
      refine z_iload_n (q := 124) (i := 3) (x := x3) dX1_orders_123 rfl rfl rfl ?_
      refine z_ishl (q := 125) dX1_orders_124 rfl ?_
      refine z_ior (q := 126) dX1_orders_125 rfl ?_
      refine z_nmI (fun v_2 hv_3 => ?_)
      have hf := hf v_2 hv_3
      refine z_istore_n (q := 127) (i := 1) (ls2 := [some (.ref a0), some (.int v_2), some (.ref a2), some (.int x3), some (.int x4), some (.int x5)]) (x := v_2) dX1_orders_126 rfl (z_lt rfl) rfl rfl ?_
      refine z_iinc (q := 130) (i := 3) (x := x3) (v := (x3 + 1)) (ls2 := [some (.ref a0), some (.int v_2), some (.ref a2), some (.int (x3 + 1)), some (.int x4), some (.int x5)]) dX1_orders_127 rfl rfl (z_lt rfl) rfl rfl ?_
      refine z_goto (q := 27) dX1_orders_130 rfl ?_
      refine z_prune [true, true, true, true, false, false] (ls2 := [some (.ref a0), some (.int v_2), some (.ref a2), some (.int (x3 + 1)), none, none]) rfl ?_
      exact hf
  · have hf := hf.2 hc
    refine z_iload (q := 83) (i := 4) (x := x4) dX1_orders_81 rfl rfl ?_
    refine z_if_eq (q := 86) (tgt := 107) dX1_orders_83 rfl rfl (fun hc => ?_) (fun hc => ?_)
    · have hf := hf.1 hc
      refine z_iconst (q := 108) (v := 0) dX1_orders_107 rfl rfl ?_
      refine z_istore (q := 110) (i := 4) (ls2 := [some (.ref a0), some (.int x1), some (.ref a2), some (.int x3), some (.int 0), some (.int x5)]) (x := 0) dX1_orders_108 (z_lt rfl) rfl rfl ?_
      refine z_iinc (q := 113) (i := 5) (x := x5) (v := (x5 + 1)) (ls2 := [some (.ref a0), some (.int x1), some (.ref a2), some (.int x3), some (.int 0), some (.int (x5 + 1))]) dX1_orders_110 rfl rfl (z_lt rfl) rfl rfl ?_
      refine z_goto (q := 69) dX1_orders_113 rfl ?_
      exact hf
    · have hf := hf.2 hc
      refine z_aload_n (q := 87) (i := 2) (x := a2) dX1_orders_86 rfl rfl rfl ?_
      refine z_iload (q := 89) (i := 5) (x := x5) dX1_orders_87 rfl rfl ?_
      obtain ⟨n_7, g_8, hf⟩ := hf
      obtain ⟨g_9, hf⟩ := hf
      refine z_iald (q := 90) (n := n_7) g_8 g_9 dX1_orders_89 rfl ?_
      refine z_aload_n (q := 91) (i := 0) (x := a0) dX1_orders_90 rfl rfl rfl ?_
      refine z_get 0 6 (q := 94) (v := .ref (a0 + 23)) rfl (z_lt rfl) (z_L0_T g_1) q512 dX1_orders_91 rfl (z_fvR (fun _ _ _ => rfl) (z_L0_P6 g_1)) ?_
      refine z_getN 9 20 (q := 97) (v := .ref (a0 + 35)) rfl (z_lt rfl) (z_L9_T (z_L0_N6 g_1)) (z_nwm q420 rfl) dX1_orders_94 rfl (z_fvR (fun _ _ _ => rfl) (z_L9_P20 (z_L0_N6 g_1))) ?_
      refine z_iload (q := 99) (i := 5) (x := x5) dX1_orders_97 rfl rfl ?_
      obtain ⟨g_10, hf⟩ := hf
      refine z_iald (q := 100) (n := 12) (z_L9_A20 (z_L0_N6 g_1)) g_10 dX1_orders_99 rfl ?_
      have hk : z_V l G m_X1_orders (z_Fx G m_X1_orders Q X) rc rs h 108 [some (.ref a0), some (.int x1), some (.ref a2), some (.int x3), some (.int x4), some (.int x5)] [.int (if (h.I a2 (Int32.toNatClampNeg x5)) = (h.I (a0 + 35) (Int32.toNatClampNeg x5)) then 1 else 0)] := by
        refine z_nmI (fun v_11 hv_12 => ?_)
        have hf := hf v_11 hv_12
        refine z_istore (q := 110) (i := 4) (ls2 := [some (.ref a0), some (.int x1), some (.ref a2), some (.int x3), some (.int v_11), some (.int x5)]) (x := v_11) dX1_orders_108 (z_lt rfl) rfl rfl ?_
        refine z_iinc (q := 113) (i := 5) (x := x5) (v := (x5 + 1)) (ls2 := [some (.ref a0), some (.int x1), some (.ref a2), some (.int x3), some (.int v_11), some (.int (x5 + 1))]) dX1_orders_110 rfl rfl (z_lt rfl) rfl rfl ?_
        refine z_goto (q := 69) dX1_orders_113 rfl ?_
        exact hf
      refine z_icmp_ne (q := 103) (tgt := 107) dX1_orders_100 rfl rfl (fun hc => ?_) (fun hc => ?_)
      · have hk := (z_ite hk).2 hc
        refine z_iconst (q := 108) (v := 0) dX1_orders_107 rfl rfl ?_
        exact hk
      · have hk := (z_ite hk).1 hc
        refine z_iconst (q := 104) (v := 1) dX1_orders_103 rfl rfl ?_
        refine z_goto (q := 108) dX1_orders_104 rfl ?_
        exact hk

theorem u_X1_plays {l : Launch} {G : z_G} {a0 : Nat} {x1 : Int32} {a2 : Nat} {h : z_H} {Q : z_Q} (hst : l.stackTraces = false)  (hf : z_L0 h a0 ∧ z_Ct l G m_X1_deals_2 [.ref a0, .int x1] h (z_Qv (fun h_2 => z_L0 h_2 a0 ∧ ∃ b_4, (h_2.P a0 4) = some b_4 ∧ z_L8 h_2 b_4 ∧ z_Ct l G m_X10_limit [.ref b_4] h_2 (z_Qi (fun x_7 h_8 => z_L7 h_8 (a0 + 9) ∧ z_Ct l G m_X9_goes [.ref (a0 + 9), .ref (a0 + 36), .ref a2, .int x_7] h_8 (z_Qv (fun h_10 => Q none h_10))))))) : z_Ct l G m_X1_plays [.ref a0, .int x1, .ref a2] h Q := by
  refine z_Ct.of (ls := [some (.ref a0), some (.int x1), some (.ref a2)]) hst rfl (by show plainName yX1_plays.cls = true; decide +kernel) (z_le rfl) rfl ?_
  show z_V l G m_X1_plays (z_Fm G m_X1_plays Q) 0 0 h 0 [some (.ref a0), some (.int x1), some (.ref a2)] []
  refine z_aload_n (q := 1) (i := 0) (x := a0) dX1_plays_0 rfl rfl rfl ?_
  refine z_iload_n (q := 2) (i := 1) (x := x1) dX1_plays_1 rfl rfl rfl ?_
  obtain ⟨g_1, hf⟩ := hf
  refine z_cVv m_X1_deals_2 [.int x1] (a0) (q := 5) (rc2 := 0) (rs2 := 0) (st := []) dX1_plays_2 rfl q1461 oV_X1_deals_2 rfl rfl ⟨z_le rfl, z_le rfl⟩ (z_le rfl) (z_rcv_of 0 rfl (z_L0_T g_1) rfl) rfl  rfl hf (fun h_2 hf => ?_)
  refine z_aload_n (q := 6) (i := 0) (x := a0) dX1_plays_5 rfl rfl rfl ?_
  obtain ⟨g_3, hf⟩ := hf
  refine z_get 0 3 (q := 9) (v := .ref (a0 + 9)) rfl (z_lt rfl) (z_L0_T g_3) q508 dX1_plays_6 rfl (z_fvR (fun _ _ _ => rfl) (z_L0_P3 g_3)) ?_
  refine z_aload_n (q := 10) (i := 0) (x := a0) dX1_plays_9 rfl rfl rfl ?_
  refine z_get 0 7 (q := 13) (v := .ref (a0 + 36)) rfl (z_lt rfl) (z_L0_T g_3) q513 dX1_plays_10 rfl (z_fvR (fun _ _ _ => rfl) (z_L0_P7 g_3)) ?_
  refine z_aload_n (q := 14) (i := 2) (x := a2) dX1_plays_13 rfl rfl rfl ?_
  refine z_aload_n (q := 15) (i := 0) (x := a0) dX1_plays_14 rfl rfl rfl ?_
  obtain ⟨b_4, g_5, hf⟩ := hf
  refine z_get 0 4 (q := 18) (v := .ref b_4) rfl (z_lt rfl) (z_L0_T g_3) q510 dX1_plays_15 rfl (z_fvR (fun _ _ _ => rfl) g_5) ?_
  obtain ⟨g_6, hf⟩ := hf
  refine z_cVi m_X10_limit [] (b_4) (q := 21) (rc2 := 0) (rs2 := 0) (st := [.ref a2, .ref (a0 + 36), .ref (a0 + 9)]) dX1_plays_18 rfl q1415 oV_X10_limit rfl rfl ⟨z_le rfl, z_le rfl⟩ (z_le rfl) (z_rcv_of 8 rfl (z_L8_T g_6) rfl) rfl  rfl hf (fun x_7 h_8 hf => ?_)
  obtain ⟨g_9, hf⟩ := hf
  refine z_cVv m_X9_goes [.ref (a0 + 36), .ref a2, .int x_7] ((a0 + 9)) (q := 24) (rc2 := 0) (rs2 := 0) (st := []) dX1_plays_21 rfl q1419 oV_X9_goes rfl rfl ⟨z_le rfl, z_le rfl⟩ (z_le rfl) (z_rcv_of 7 rfl (z_L7_T g_9) rfl) rfl  rfl hf (fun h_10 hf => ?_)
  exact z_vret dX1_plays_24 rfl hf

theorem u_X1_reads {l : Launch} {G : z_G} {a0 : Nat} {h : z_H} {Q : z_Q} (hst : l.stackTraces = false)  (hf : z_L0 h a0 ∧ z_Ct l G m_X2_begin [.ref (a0 + 2), .ref (a0 + 1), .int (h.I a0 11)] h (z_Qv (fun h_2 => z_L0 h_2 a0 ∧ Q none (h_2.sI a0 11 0)))) : z_Ct l G m_X1_reads [.ref a0] h Q := by
  refine z_Ct.of (ls := [some (.ref a0)]) hst rfl (by show plainName yX1_reads.cls = true; decide +kernel) (z_le rfl) rfl ?_
  show z_V l G m_X1_reads (z_Fm G m_X1_reads Q) 0 0 h 0 [some (.ref a0)] []
  refine z_aload_n (q := 1) (i := 0) (x := a0) dX1_reads_0 rfl rfl rfl ?_
  obtain ⟨g_1, hf⟩ := hf
  refine z_get 0 1 (q := 4) (v := .ref (a0 + 2)) rfl (z_lt rfl) (z_L0_T g_1) q505 dX1_reads_1 rfl (z_fvR (fun _ _ _ => rfl) (z_L0_P1 g_1)) ?_
  refine z_aload_n (q := 5) (i := 0) (x := a0) dX1_reads_4 rfl rfl rfl ?_
  refine z_get 0 0 (q := 8) (v := .ref (a0 + 1)) rfl (z_lt rfl) (z_L0_T g_1) q504 dX1_reads_5 rfl (z_fvR (fun _ _ _ => rfl) (z_L0_P0 g_1)) ?_
  refine z_aload_n (q := 9) (i := 0) (x := a0) dX1_reads_8 rfl rfl rfl ?_
  refine z_get 0 11 (q := 12) (v := .int (h.I a0 11)) rfl (z_lt rfl) (z_L0_T g_1) q517 dX1_reads_9 rfl rfl ?_
  refine z_cVv m_X2_begin [.ref (a0 + 1), .int (h.I a0 11)] ((a0 + 2)) (q := 15) (rc2 := 0) (rs2 := 0) (st := []) dX1_reads_12 rfl q589 oV_X2_begin rfl rfl ⟨z_le rfl, z_le rfl⟩ (z_le rfl) (z_rcv_of 1 rfl (z_L0_N1 g_1) rfl) rfl  rfl hf (fun h_2 hf => ?_)
  refine z_aload_n (q := 16) (i := 0) (x := a0) dX1_reads_15 rfl rfl rfl ?_
  refine z_iconst (q := 17) (v := 0) dX1_reads_16 rfl rfl ?_
  obtain ⟨g_3, hf⟩ := hf
  refine z_putI 0 11 (q := 20) (x := 0) (v := .int 0) rfl (z_lt rfl) (z_L0_T g_3) q517 rfl dX1_reads_17 rfl rfl rfl rfl (fun _ _ _ => rfl) ?_
  exact z_vret dX1_reads_20 rfl hf

theorem u_X1_row {l : Launch} {G : z_G} {a0 : Nat} {x1 : Int32} {x2 : Int32} {h : z_H} {Q : z_Q} (hst : l.stackTraces = false)  (hf : (x1 < 0 → Q (some (.int (-1))) h) ∧ (¬ x1 < 0 → z_L0 h a0 ∧ z_Ct l G m_X1_firstRow [.ref a0] h (z_Qi (fun x_2 h_3 => (x_2 = 0 → Q (some (.int (-1))) h_3) ∧ (¬ x_2 = 0 → z_L0 h_3 a0 ∧ z_Ct l G m_X1_in [.int x2, .int 0, .int ((h_3.I a0 16) - 1)] h_3 (z_Qi (fun x_5 h_6 => (x_5 = 0 → Q (some (.int (-1))) h_6) ∧ (¬ x_5 = 0 → z_V l G m_X1_row (z_Fm G m_X1_row Q) 0 0 h_6 29 [some (.ref a0), some (.int x1), some (.int x2), some (.int 0)] [])))))))) : z_Ct l G m_X1_row [.ref a0, .int x1, .int x2] h Q := by
  refine z_Ct.of (ls := [some (.ref a0), some (.int x1), some (.int x2), none]) hst rfl (by show plainName yX1_row.cls = true; decide +kernel) (z_le rfl) rfl ?_
  show z_V l G m_X1_row (z_Fm G m_X1_row Q) 1 8 h 0 [some (.ref a0), some (.int x1), some (.int x2), none] []
  refine z_iload_n (q := 1) (i := 1) (x := x1) dX1_row_0 rfl rfl rfl ?_
  refine z_if_lt (q := 4) (tgt := 25) dX1_row_1 rfl rfl (fun hc => ?_) (fun hc => ?_)
  · have hf := hf.1 hc
    refine z_iconst (q := 26) (v := (-1)) dX1_row_25 rfl rfl ?_
    exact z_iret dX1_row_26 rfl hf
  · have hf := hf.2 hc
    refine z_aload_n (q := 5) (i := 0) (x := a0) dX1_row_4 rfl rfl rfl ?_
    obtain ⟨g_1, hf⟩ := hf
    refine z_cVi m_X1_firstRow [] (a0) (q := 8) (rc2 := 0) (rs2 := 0) (st := []) dX1_row_5 rfl q1449 oV_X1_firstRow rfl rfl ⟨z_le rfl, z_le rfl⟩ (z_le rfl) (z_rcv_of 0 rfl (z_L0_T g_1) rfl) rfl  rfl hf (fun x_2 h_3 hf => ?_)
    refine z_if_eq (q := 11) (tgt := 25) dX1_row_8 rfl rfl (fun hc => ?_) (fun hc => ?_)
    · have hf := hf.1 hc
      refine z_iconst (q := 26) (v := (-1)) dX1_row_25 rfl rfl ?_
      exact z_iret dX1_row_26 rfl hf
    · have hf := hf.2 hc
      refine z_iload_n (q := 12) (i := 2) (x := x2) dX1_row_11 rfl rfl rfl ?_
      refine z_iconst (q := 13) (v := 0) dX1_row_12 rfl rfl ?_
      refine z_aload_n (q := 14) (i := 0) (x := a0) dX1_row_13 rfl rfl rfl ?_
      obtain ⟨g_4, hf⟩ := hf
      refine z_get 0 16 (q := 17) (v := .int (h_3.I a0 16)) rfl (z_lt rfl) (z_L0_T g_4) q522 dX1_row_14 rfl rfl ?_
      refine z_iconst (q := 18) (v := 1) dX1_row_17 rfl rfl ?_
      refine z_isub (q := 19) dX1_row_18 rfl ?_
      refine z_cSi m_X1_in [.int x2, .int 0, .int ((h_3.I a0 16) - 1)] (q := 22) (rc2 := 0) (rs2 := 0) (st := []) dX1_row_19 rfl q1259 oS_X1_in rfl rfl ⟨z_le rfl, z_le rfl⟩ (z_le rfl) rfl  rfl hf (fun x_5 h_6 hf => ?_)
      refine z_if_ne (q := 25) (tgt := 27) dX1_row_22 rfl rfl (fun hc => ?_) (fun hc => ?_)
      · have hf := hf.2 hc
        refine z_iconst (q := 28) (v := 0) dX1_row_27 rfl rfl ?_
        refine z_istore_n (q := 29) (i := 3) (ls2 := [some (.ref a0), some (.int x1), some (.int x2), some (.int 0)]) (x := 0) dX1_row_28 rfl (z_lt rfl) rfl rfl ?_
        exact hf
      · have hf := hf.1 hc
        refine z_iconst (q := 26) (v := (-1)) dX1_row_25 rfl rfl ?_
        exact z_iret dX1_row_26 rfl hf

theorem b_X1_row_29 {l : Launch} {G : z_G} {rc rs : Nat} {a0 : Nat} {x1 : Int32} {x2 : Int32} {x3 : Int32} {h : z_H} {Q : z_Q}  (hf : (x1 ≤ x3 → z_L0 h a0 ∧ vp_in x2 24 ∧ Q (some (.int (h.I (a0 + 55) (Int32.toNatClampNeg x2)))) h) ∧ (¬ x1 ≤ x3 → z_L0 h a0 ∧ z_Ct l G m_X1_nextRow [.ref a0] h (z_Qi (fun x_4 h_5 => (x_4 = 0 → Q (some (.int (-1))) h_5) ∧ (¬ x_4 = 0 → z_V l G m_X1_row (z_Fm G m_X1_row Q) rc rs h_5 29 [some (.ref a0), some (.int x1), some (.int x2), some (.int (x3 + 1))] []))))) : z_V l G m_X1_row (z_Fm G m_X1_row Q) rc rs h 29 [some (.ref a0), some (.int x1), some (.int x2), some (.int x3)] [] := by
  refine z_iload_n (q := 30) (i := 3) (x := x3) dX1_row_29 rfl rfl rfl ?_
  refine z_iload_n (q := 31) (i := 1) (x := x1) dX1_row_30 rfl rfl rfl ?_
  refine z_icmp_ge (q := 34) (tgt := 49) dX1_row_31 rfl rfl (fun hc => ?_) (fun hc => ?_)
  · have hf := hf.1 hc
    refine z_aload_n (q := 50) (i := 0) (x := a0) dX1_row_49 rfl rfl rfl ?_
    obtain ⟨g_1, hf⟩ := hf
    refine z_get 0 15 (q := 53) (v := .ref (a0 + 55)) rfl (z_lt rfl) (z_L0_T g_1) q521 dX1_row_50 rfl (z_fvR (fun _ _ _ => rfl) (z_L0_P15 g_1)) ?_
    refine z_iload_n (q := 54) (i := 2) (x := x2) dX1_row_53 rfl rfl rfl ?_
    obtain ⟨g_2, hf⟩ := hf
    refine z_iald (q := 55) (n := 24) (z_L0_A15 g_1) g_2 dX1_row_54 rfl ?_
    exact z_iret dX1_row_55 rfl hf
  · have hf := hf.2 hc
    refine z_aload_n (q := 35) (i := 0) (x := a0) dX1_row_34 rfl rfl rfl ?_
    obtain ⟨g_3, hf⟩ := hf
    refine z_cVi m_X1_nextRow [] (a0) (q := 38) (rc2 := rc) (rs2 := rs) (st := []) dX1_row_35 rfl q1465 oV_X1_nextRow rfl rfl ⟨z_le rfl, z_le rfl⟩ (z_le rfl) (z_rcv_of 0 rfl (z_L0_T g_3) rfl) rfl  rfl hf (fun x_4 h_5 hf => ?_)
    refine z_if_ne (q := 41) (tgt := 43) dX1_row_38 rfl rfl (fun hc => ?_) (fun hc => ?_)
    · have hf := hf.2 hc
      refine z_iinc (q := 46) (i := 3) (x := x3) (v := (x3 + 1)) (ls2 := [some (.ref a0), some (.int x1), some (.int x2), some (.int (x3 + 1))]) dX1_row_43 rfl rfl (z_lt rfl) rfl rfl ?_
      refine z_goto (q := 29) dX1_row_46 rfl ?_
      exact hf
    · have hf := hf.1 hc
      refine z_iconst (q := 42) (v := (-1)) dX1_row_41 rfl rfl ?_
      exact z_iret dX1_row_42 rfl hf

theorem u_X1_rows {l : Launch} {G : z_G} {a0 : Nat} {h : z_H} {Q : z_Q} (hst : l.stackTraces = false)  (hf : z_V l G m_X1_rows (z_Fm G m_X1_rows Q) 0 0 (h.nw (1, 8)) 9 [some (.ref a0), some (.int 1), some (.ref (h.n)), some (.int 0)] []) : z_Ct l G m_X1_rows [.ref a0] h Q := by
  refine z_Ct.of (ls := [some (.ref a0), none, none, none]) hst rfl (by show plainName yX1_rows.cls = true; decide +kernel) (z_le rfl) rfl ?_
  show z_V l G m_X1_rows (z_Fm G m_X1_rows Q) 1 8 h 0 [some (.ref a0), none, none, none] []
  refine z_iconst (q := 1) (v := 1) dX1_rows_0 rfl rfl ?_
  refine z_istore_n (q := 2) (i := 1) (ls2 := [some (.ref a0), some (.int 1), none, none]) (x := 1) dX1_rows_1 rfl (z_lt rfl) rfl rfl ?_
  refine z_bipush (q := 4) (v := 8) dX1_rows_2 (by decide) rfl ?_
  refine z_newa 1 (q := 6) (N := 8) (rc2 := 0) (rs2 := 0) (z_lt rfl) (z_lt rfl) rfl q295 (by decide) rfl (z_le rfl) dX1_rows_4 rfl rfl rfl ?_
  refine z_astore_n (q := 7) (i := 2) (ls2 := [some (.ref a0), some (.int 1), some (.ref (h.n)), none]) (x := (h.n)) dX1_rows_6 rfl (z_lt rfl) rfl rfl ?_
  refine z_iconst (q := 8) (v := 0) dX1_rows_7 rfl rfl ?_
  refine z_istore_n (q := 9) (i := 3) (ls2 := [some (.ref a0), some (.int 1), some (.ref (h.n)), some (.int 0)]) (x := 0) dX1_rows_8 rfl (z_lt rfl) rfl rfl ?_
  exact hf

theorem b_X1_rows_9 {l : Launch} {G : z_G} {rc rs : Nat} {a0 : Nat} {x1 : Int32} {a2 : Nat} {x3 : Int32} {h : z_H} {Q : z_Q}  (hf : z_L0 h a0 ∧ ((h.I a0 16) ≤ x3 → Q (some (.int x1)) h) ∧ (¬ (h.I a0 16) ≤ x3 → vp_in x3 24 ∧ ∃ n_3, h.T a2 = (1, n_3) ∧ vp_in (h.I (a0 + 55) (Int32.toNatClampNeg x3)) n_3 ∧ vp_in (h.I (a0 + 55) (Int32.toNatClampNeg x3)) n_3 ∧ ¬ ((h.I a2 (Int32.toNatClampNeg (h.I (a0 + 55) (Int32.toNatClampNeg x3)))) + 1) = 0 ∧ ∀ v_8 : Int32, v_8 = ((x1 * (x3 + 1)) / ((h.I a2 (Int32.toNatClampNeg (h.I (a0 + 55) (Int32.toNatClampNeg x3)))) + 1)) → z_V l G m_X1_rows (z_Fm G m_X1_rows Q) rc rs (h.sI a2 (Int32.toNatClampNeg (h.I (a0 + 55) (Int32.toNatClampNeg x3))) ((h.I a2 (Int32.toNatClampNeg (h.I (a0 + 55) (Int32.toNatClampNeg x3)))) + 1)) 9 [some (.ref a0), some (.int v_8), some (.ref a2), some (.int (x3 + 1))] [])) : z_V l G m_X1_rows (z_Fm G m_X1_rows Q) rc rs h 9 [some (.ref a0), some (.int x1), some (.ref a2), some (.int x3)] [] := by
  refine z_iload_n (q := 10) (i := 3) (x := x3) dX1_rows_9 rfl rfl rfl ?_
  refine z_aload_n (q := 11) (i := 0) (x := a0) dX1_rows_10 rfl rfl rfl ?_
  obtain ⟨g_1, hf⟩ := hf
  refine z_get 0 16 (q := 14) (v := .int (h.I a0 16)) rfl (z_lt rfl) (z_L0_T g_1) q522 dX1_rows_11 rfl rfl ?_
  refine z_icmp_ge (q := 17) (tgt := 43) dX1_rows_14 rfl rfl (fun hc => ?_) (fun hc => ?_)
  · have hf := hf.1 hc
    refine z_iload_n (q := 44) (i := 1) (x := x1) dX1_rows_43 rfl rfl rfl ?_
    exact z_iret dX1_rows_44 rfl hf
  · have hf := hf.2 hc
    refine z_iload_n (q := 18) (i := 1) (x := x1) dX1_rows_17 rfl rfl rfl ?_
    refine z_iload_n (q := 19) (i := 3) (x := x3) dX1_rows_18 rfl rfl rfl ?_
    refine z_iconst (q := 20) (v := 1) dX1_rows_19 rfl rfl ?_
    refine z_iadd (q := 21) dX1_rows_20 rfl ?_
    refine z_imul (q := 22) dX1_rows_21 rfl ?_
    refine z_aload_n (q := 23) (i := 2) (x := a2) dX1_rows_22 rfl rfl rfl ?_
    refine z_aload_n (q := 24) (i := 0) (x := a0) dX1_rows_23 rfl rfl rfl ?_
    refine z_get 0 15 (q := 27) (v := .ref (a0 + 55)) rfl (z_lt rfl) (z_L0_T g_1) q521 dX1_rows_24 rfl (z_fvR (fun _ _ _ => rfl) (z_L0_P15 g_1)) ?_
    refine z_iload_n (q := 28) (i := 3) (x := x3) dX1_rows_27 rfl rfl rfl ?_
    obtain ⟨g_2, hf⟩ := hf
    refine z_iald (q := 29) (n := 24) (z_L0_A15 g_1) g_2 dX1_rows_28 rfl ?_
    refine z_dup2 (q := 30) dX1_rows_29 rfl rfl rfl ?_
    obtain ⟨n_3, g_4, hf⟩ := hf
    obtain ⟨g_5, hf⟩ := hf
    refine z_iald (q := 31) (n := n_3) g_4 g_5 dX1_rows_30 rfl ?_
    refine z_iconst (q := 32) (v := 1) dX1_rows_31 rfl rfl ?_
    refine z_iadd (q := 33) dX1_rows_32 rfl ?_
    refine z_dup_x2 (q := 34) dX1_rows_33 rfl rfl rfl rfl ?_
    obtain ⟨g_6, hf⟩ := hf
    refine z_iast (q := 35) (n := n_3) g_4 g_6 dX1_rows_34 rfl ?_
    obtain ⟨g_7, hf⟩ := hf
    refine z_idiv (q := 36) dX1_rows_35 g_7 rfl ?_
    refine z_nmI (fun v_8 hv_9 => ?_)
    have hf := hf v_8 hv_9
    refine z_istore_n (q := 37) (i := 1) (ls2 := [some (.ref a0), some (.int v_8), some (.ref a2), some (.int x3)]) (x := v_8) dX1_rows_36 rfl (z_lt rfl) rfl rfl ?_
    refine z_iinc (q := 40) (i := 3) (x := x3) (v := (x3 + 1)) (ls2 := [some (.ref a0), some (.int v_8), some (.ref a2), some (.int (x3 + 1))]) dX1_rows_37 rfl rfl (z_lt rfl) rfl rfl ?_
    refine z_goto (q := 9) dX1_rows_40 rfl ?_
    exact hf

theorem u_X1_settles {l : Launch} {G : z_G} {a0 : Nat} {h : z_H} {Q : z_Q} (hst : l.stackTraces = false)  (hf : z_V l G m_X1_settles (z_Fm G m_X1_settles Q) 0 0 h 2 [some (.ref a0), some (.int 0), none] []) : z_Ct l G m_X1_settles [.ref a0] h Q := by
  refine z_Ct.of (ls := [some (.ref a0), none, none]) hst rfl (by show plainName yX1_settles.cls = true; decide +kernel) (z_le rfl) rfl ?_
  show z_V l G m_X1_settles (z_Fm G m_X1_settles Q) 0 0 h 0 [some (.ref a0), none, none] []
  refine z_iconst (q := 1) (v := 0) dX1_settles_0 rfl rfl ?_
  refine z_istore_n (q := 2) (i := 1) (ls2 := [some (.ref a0), some (.int 0), none]) (x := 0) dX1_settles_1 rfl (z_lt rfl) rfl rfl ?_
  exact hf

theorem b_X1_settles_2 {l : Launch} {G : z_G} {a0 : Nat} {x1 : Int32} {h : z_H} {Q : z_Q}  (hf : z_L0 h a0 ∧ z_Ct l G m_J2_size [.ref (a0 + 32)] h (z_Qi (fun x_2 h_3 => (x_2 ≤ x1 → Q none h_3) ∧ (¬ x_2 ≤ x1 → z_L0 h_3 a0 ∧ z_Ct l G m_J2_get [.ref (a0 + 32), .int x1] h_3 (z_Qr (fun b_5 h_6 => (h_6.T b_5).1 = 29 ∧ z_L0 h_6 a0 ∧ ((h_6.I b_5 0) = (h_6.I (a0 + 23) 12) → z_V l G m_X1_settles (z_Fm G m_X1_settles Q) 0 0 (h_6.sI (a0 + 23) 23 ((h_6.I (a0 + 23) 23) + ((h_6.I b_5 1) + (((h_6.I b_5 1) * (h_6.I b_5 2)) / 10)))) 2 [some (.ref a0), some (.int (x1 + 1)), none] []) ∧ (¬ (h_6.I b_5 0) = (h_6.I (a0 + 23) 12) → z_V l G m_X1_settles (z_Fm G m_X1_settles Q) 0 0 h_6 2 [some (.ref a0), some (.int (x1 + 1)), none] []))))))) : z_V l G m_X1_settles (z_Fm G m_X1_settles Q) 0 0 h 2 [some (.ref a0), some (.int x1), none] [] := by
  refine z_iload_n (q := 3) (i := 1) (x := x1) dX1_settles_2 rfl rfl rfl ?_
  refine z_aload_n (q := 4) (i := 0) (x := a0) dX1_settles_3 rfl rfl rfl ?_
  obtain ⟨g_1, hf⟩ := hf
  refine z_get 0 6 (q := 7) (v := .ref (a0 + 23)) rfl (z_lt rfl) (z_L0_T g_1) q512 dX1_settles_4 rfl (z_fvR (fun _ _ _ => rfl) (z_L0_P6 g_1)) ?_
  refine z_getN 9 18 (q := 10) (v := .ref (a0 + 32)) rfl (z_lt rfl) (z_L9_T (z_L0_N6 g_1)) (z_nwm q416 rfl) dX1_settles_7 rfl (z_fvR (fun _ _ _ => rfl) (z_L9_P18 (z_L0_N6 g_1))) ?_
  refine z_cVi m_J2_size [] ((a0 + 32)) (q := 13) (rc2 := 0) (rs2 := 0) (st := [.int x1]) dX1_settles_10 rfl q1258 oV_J2_size rfl rfl ⟨z_le rfl, z_le rfl⟩ (z_le rfl) (z_rcv_of 21 rfl (z_L9_N18 (z_L0_N6 g_1)) rfl) rfl  rfl hf (fun x_2 h_3 hf => ?_)
  refine z_icmp_ge (q := 16) (tgt := 80) dX1_settles_13 rfl rfl (fun hc => ?_) (fun hc => ?_)
  · have hf := hf.1 hc
    exact z_vret dX1_settles_80 rfl hf
  · have hf := hf.2 hc
    refine z_aload_n (q := 17) (i := 0) (x := a0) dX1_settles_16 rfl rfl rfl ?_
    obtain ⟨g_4, hf⟩ := hf
    refine z_get 0 6 (q := 20) (v := .ref (a0 + 23)) rfl (z_lt rfl) (z_L0_T g_4) q512 dX1_settles_17 rfl (z_fvR (fun _ _ _ => rfl) (z_L0_P6 g_4)) ?_
    refine z_getN 9 18 (q := 23) (v := .ref (a0 + 32)) rfl (z_lt rfl) (z_L9_T (z_L0_N6 g_4)) (z_nwm q416 rfl) dX1_settles_20 rfl (z_fvR (fun _ _ _ => rfl) (z_L9_P18 (z_L0_N6 g_4))) ?_
    refine z_iload_n (q := 24) (i := 1) (x := x1) dX1_settles_23 rfl rfl rfl ?_
    refine z_cVr m_J2_get [.int x1] ((a0 + 32)) (q := 27) (rc2 := 0) (rs2 := 0) (st := []) dX1_settles_24 rfl q1285 oV_J2_get rfl rfl ⟨z_le rfl, z_le rfl⟩ (z_le rfl) (z_rcv_of 21 rfl (z_L9_N18 (z_L0_N6 g_4)) rfl) rfl  rfl hf (fun b_5 h_6 hf => ?_)
    obtain ⟨g_7, hf⟩ := hf
    refine z_cast (C0 := "BeggarHeaps$Bet") (nm := "BeggarHeaps$Bet") (z_rcv_of 19 rfl g_7 rfl) (Or.inl rfl) q1395 dX1_settles_27 rfl ?_
    refine z_astore_n (q := 31) (i := 2) (ls2 := [some (.ref a0), some (.int x1), some (.ref b_5)]) (x := b_5) dX1_settles_30 rfl (z_lt rfl) rfl rfl ?_
    refine z_aload_n (q := 32) (i := 2) (x := b_5) dX1_settles_31 rfl rfl rfl ?_
    refine z_getN 19 0 (q := 35) (v := .int (h_6.I b_5 0)) rfl (z_lt rfl) g_7 (z_nwm q1561 rfl) dX1_settles_32 rfl rfl ?_
    refine z_aload_n (q := 36) (i := 0) (x := a0) dX1_settles_35 rfl rfl rfl ?_
    obtain ⟨g_8, hf⟩ := hf
    refine z_get 0 6 (q := 39) (v := .ref (a0 + 23)) rfl (z_lt rfl) (z_L0_T g_8) q512 dX1_settles_36 rfl (z_fvR (fun _ _ _ => rfl) (z_L0_P6 g_8)) ?_
    refine z_getN 9 12 (q := 42) (v := .int (h_6.I (a0 + 23) 12)) rfl (z_lt rfl) (z_L9_T (z_L0_N6 g_8)) (z_nwm q402 rfl) dX1_settles_39 rfl rfl ?_
    refine z_icmp_ne (q := 45) (tgt := 74) dX1_settles_42 rfl rfl (fun hc => ?_) (fun hc => ?_)
    · have hf := hf.2 hc
      refine z_iinc (q := 77) (i := 1) (x := x1) (v := (x1 + 1)) (ls2 := [some (.ref a0), some (.int (x1 + 1)), some (.ref b_5)]) dX1_settles_74 rfl rfl (z_lt rfl) rfl rfl ?_
      refine z_goto (q := 2) dX1_settles_77 rfl ?_
      refine z_prune [true, true, false] (ls2 := [some (.ref a0), some (.int (x1 + 1)), none]) rfl ?_
      exact hf
    · have hf := hf.1 hc
      refine z_aload_n (q := 46) (i := 0) (x := a0) dX1_settles_45 rfl rfl rfl ?_
      refine z_get 0 6 (q := 49) (v := .ref (a0 + 23)) rfl (z_lt rfl) (z_L0_T g_8) q512 dX1_settles_46 rfl (z_fvR (fun _ _ _ => rfl) (z_L0_P6 g_8)) ?_
      refine z_dup (q := 50) dX1_settles_49 rfl rfl ?_
      refine z_getN 9 23 (q := 53) (v := .int (h_6.I (a0 + 23) 23)) rfl (z_lt rfl) (z_L9_T (z_L0_N6 g_8)) (z_nwm q426 rfl) dX1_settles_50 rfl rfl ?_
      refine z_aload_n (q := 54) (i := 2) (x := b_5) dX1_settles_53 rfl rfl rfl ?_
      refine z_getN 19 1 (q := 57) (v := .int (h_6.I b_5 1)) rfl (z_lt rfl) g_7 (z_nwm q1563 rfl) dX1_settles_54 rfl rfl ?_
      refine z_aload_n (q := 58) (i := 2) (x := b_5) dX1_settles_57 rfl rfl rfl ?_
      refine z_getN 19 1 (q := 61) (v := .int (h_6.I b_5 1)) rfl (z_lt rfl) g_7 (z_nwm q1563 rfl) dX1_settles_58 rfl rfl ?_
      refine z_aload_n (q := 62) (i := 2) (x := b_5) dX1_settles_61 rfl rfl rfl ?_
      refine z_getN 19 2 (q := 65) (v := .int (h_6.I b_5 2)) rfl (z_lt rfl) g_7 (z_nwm q1565 rfl) dX1_settles_62 rfl rfl ?_
      refine z_imul (q := 66) dX1_settles_65 rfl ?_
      refine z_bipush (q := 68) (v := 10) dX1_settles_66 (by decide) rfl ?_
      refine z_idiv (q := 69) dX1_settles_68 (by decide) rfl ?_
      refine z_iadd (q := 70) dX1_settles_69 rfl ?_
      refine z_iadd (q := 71) dX1_settles_70 rfl ?_
      refine z_putIN 9 23 (q := 74) (x := ((h_6.I (a0 + 23) 23) + ((h_6.I b_5 1) + (((h_6.I b_5 1) * (h_6.I b_5 2)) / 10)))) (v := .int ((h_6.I (a0 + 23) 23) + ((h_6.I b_5 1) + (((h_6.I b_5 1) * (h_6.I b_5 2)) / 10)))) rfl (z_lt rfl) (z_L9_T (z_L0_N6 g_8)) (z_nwm q426 rfl) rfl dX1_settles_71 rfl rfl rfl rfl (fun _ _ _ => rfl) ?_
      refine z_iinc (q := 77) (i := 1) (x := x1) (v := (x1 + 1)) (ls2 := [some (.ref a0), some (.int (x1 + 1)), some (.ref b_5)]) dX1_settles_74 rfl rfl (z_lt rfl) rfl rfl ?_
      refine z_goto (q := 2) dX1_settles_77 rfl ?_
      refine z_prune [true, true, false] (ls2 := [some (.ref a0), some (.int (x1 + 1)), none]) rfl ?_
      exact hf

theorem u_X1_shuffles {l : Launch} {G : z_G} {a0 : Nat} {h : z_H} {Q : z_Q} (hst : l.stackTraces = false)  (hf : z_L0 h a0 ∧ z_V l G m_X1_shuffles (z_Fm G m_X1_shuffles Q) 0 0 (h.sI a0 16 0) 7 [some (.ref a0), some (.int 0), none] []) : z_Ct l G m_X1_shuffles [.ref a0] h Q := by
  refine z_Ct.of (ls := [some (.ref a0), none, none]) hst rfl (by show plainName yX1_shuffles.cls = true; decide +kernel) (z_le rfl) rfl ?_
  show z_V l G m_X1_shuffles (z_Fm G m_X1_shuffles Q) 0 0 h 0 [some (.ref a0), none, none] []
  refine z_aload_n (q := 1) (i := 0) (x := a0) dX1_shuffles_0 rfl rfl rfl ?_
  refine z_iconst (q := 2) (v := 0) dX1_shuffles_1 rfl rfl ?_
  obtain ⟨g_1, hf⟩ := hf
  refine z_putI 0 16 (q := 5) (x := 0) (v := .int 0) rfl (z_lt rfl) (z_L0_T g_1) q522 rfl dX1_shuffles_2 rfl rfl rfl rfl (fun _ _ _ => rfl) ?_
  refine z_iconst (q := 6) (v := 0) dX1_shuffles_5 rfl rfl ?_
  refine z_istore_n (q := 7) (i := 1) (ls2 := [some (.ref a0), some (.int 0), none]) (x := 0) dX1_shuffles_6 rfl (z_lt rfl) rfl rfl ?_
  exact hf

theorem b_X1_shuffles_7 {l : Launch} {G : z_G} {a0 : Nat} {x1 : Int32} {h : z_H} {Q : z_Q}  (hf : z_L0 h a0 ∧ z_Ct l G m_X1_kinds [.ref a0] h (z_Qi (fun x_2 h_3 => (x_2 ≤ x1 → z_L0 h_3 a0 ∧ ∀ v_5 : Int32, v_5 = ((h_3.I a0 16) - 1) → z_V l G m_X1_shuffles (z_Fm G m_X1_shuffles Q) 0 0 h_3 66 [some (.ref a0), some (.int v_5), none] []) ∧ (¬ x_2 ≤ x1 → z_V l G m_X1_shuffles (z_Fm G m_X1_shuffles Q) 0 0 h_3 17 [some (.ref a0), some (.int x1), some (.int 0)] [])))) : z_V l G m_X1_shuffles (z_Fm G m_X1_shuffles Q) 0 0 h 7 [some (.ref a0), some (.int x1), none] [] := by
  refine z_iload_n (q := 8) (i := 1) (x := x1) dX1_shuffles_7 rfl rfl rfl ?_
  refine z_aload_n (q := 9) (i := 0) (x := a0) dX1_shuffles_8 rfl rfl rfl ?_
  obtain ⟨g_1, hf⟩ := hf
  refine z_cVi m_X1_kinds [] (a0) (q := 12) (rc2 := 0) (rs2 := 0) (st := [.int x1]) dX1_shuffles_9 rfl q1254 oV_X1_kinds rfl rfl ⟨z_le rfl, z_le rfl⟩ (z_le rfl) (z_rcv_of 0 rfl (z_L0_T g_1) rfl) rfl  rfl hf (fun x_2 h_3 hf => ?_)
  refine z_icmp_ge (q := 15) (tgt := 59) dX1_shuffles_12 rfl rfl (fun hc => ?_) (fun hc => ?_)
  · have hf := hf.1 hc
    refine z_aload_n (q := 60) (i := 0) (x := a0) dX1_shuffles_59 rfl rfl rfl ?_
    obtain ⟨g_4, hf⟩ := hf
    refine z_get 0 16 (q := 63) (v := .int (h_3.I a0 16)) rfl (z_lt rfl) (z_L0_T g_4) q522 dX1_shuffles_60 rfl rfl ?_
    refine z_iconst (q := 64) (v := 1) dX1_shuffles_63 rfl rfl ?_
    refine z_isub (q := 65) dX1_shuffles_64 rfl ?_
    refine z_nmI (fun v_5 hv_6 => ?_)
    have hf := hf v_5 hv_6
    refine z_istore_n (q := 66) (i := 1) (ls2 := [some (.ref a0), some (.int v_5), none]) (x := v_5) dX1_shuffles_65 rfl (z_lt rfl) rfl rfl ?_
    exact hf
  · have hf := hf.2 hc
    refine z_iconst (q := 16) (v := 0) dX1_shuffles_15 rfl rfl ?_
    refine z_istore_n (q := 17) (i := 2) (ls2 := [some (.ref a0), some (.int x1), some (.int 0)]) (x := 0) dX1_shuffles_16 rfl (z_lt rfl) rfl rfl ?_
    exact hf

theorem b_X1_shuffles_66 {l : Launch} {G : z_G} {a0 : Nat} {x1 : Int32} {h : z_H} {Q : z_Q}  (hf : (x1 ≤ 0 → Q none h) ∧ (¬ x1 ≤ 0 → z_L0 h a0 ∧ z_Ct l G m_X1_draws [.ref a0, .int (x1 + 1)] h (z_Qi (fun x_2 h_3 => z_L0 h_3 a0 ∧ z_Ct l G m_X1_changes [.ref a0, .int x1, .int x_2] h_3 (z_Qv (fun h_5 => z_V l G m_X1_shuffles (z_Fm G m_X1_shuffles Q) 0 0 h_5 66 [some (.ref a0), some (.int (x1 + (-1))), none] [])))))) : z_V l G m_X1_shuffles (z_Fm G m_X1_shuffles Q) 0 0 h 66 [some (.ref a0), some (.int x1), none] [] := by
  refine z_iload_n (q := 67) (i := 1) (x := x1) dX1_shuffles_66 rfl rfl rfl ?_
  refine z_if_le (q := 70) (tgt := 88) dX1_shuffles_67 rfl rfl (fun hc => ?_) (fun hc => ?_)
  · have hf := hf.1 hc
    exact z_vret dX1_shuffles_88 rfl hf
  · have hf := hf.2 hc
    refine z_aload_n (q := 71) (i := 0) (x := a0) dX1_shuffles_70 rfl rfl rfl ?_
    refine z_iload_n (q := 72) (i := 1) (x := x1) dX1_shuffles_71 rfl rfl rfl ?_
    refine z_aload_n (q := 73) (i := 0) (x := a0) dX1_shuffles_72 rfl rfl rfl ?_
    refine z_iload_n (q := 74) (i := 1) (x := x1) dX1_shuffles_73 rfl rfl rfl ?_
    refine z_iconst (q := 75) (v := 1) dX1_shuffles_74 rfl rfl ?_
    refine z_iadd (q := 76) dX1_shuffles_75 rfl ?_
    obtain ⟨g_1, hf⟩ := hf
    refine z_cVi m_X1_draws [.int (x1 + 1)] (a0) (q := 79) (rc2 := 0) (rs2 := 0) (st := [.int x1, .ref a0]) dX1_shuffles_76 rfl q1626 oV_X1_draws rfl rfl ⟨z_le rfl, z_le rfl⟩ (z_le rfl) (z_rcv_of 0 rfl (z_L0_T g_1) rfl) rfl  rfl hf (fun x_2 h_3 hf => ?_)
    obtain ⟨g_4, hf⟩ := hf
    refine z_cVv m_X1_changes [.int x1, .int x_2] (a0) (q := 82) (rc2 := 0) (rs2 := 0) (st := []) dX1_shuffles_79 rfl q1469 oV_X1_changes rfl rfl ⟨z_le rfl, z_le rfl⟩ (z_le rfl) (z_rcv_of 0 rfl (z_L0_T g_4) rfl) rfl  rfl hf (fun h_5 hf => ?_)
    refine z_iinc (q := 85) (i := 1) (x := x1) (v := (x1 + (-1))) (ls2 := [some (.ref a0), some (.int (x1 + (-1))), none]) dX1_shuffles_82 rfl rfl (z_lt rfl) rfl rfl ?_
    refine z_goto (q := 66) dX1_shuffles_85 rfl ?_
    exact hf

theorem b_X1_shuffles_17 {l : Launch} {G : z_G} {a0 : Nat} {x1 : Int32} {x2 : Int32} {h : z_H} {Q : z_Q}  (hf : z_L0 h a0 ∧ ∃ b_2, (h.P a0 4) = some b_2 ∧ z_L8 h b_2 ∧ vp_in x1 8 ∧ ((h.I (b_2 + 4) (Int32.toNatClampNeg x1)) ≤ x2 → z_V l G m_X1_shuffles (z_Fm G m_X1_shuffles Q) 0 0 h 7 [some (.ref a0), some (.int (x1 + 1)), none] []) ∧ (¬ (h.I (b_2 + 4) (Int32.toNatClampNeg x1)) ≤ x2 → vp_in (h.I a0 16) 24 ∧ z_V l G m_X1_shuffles (z_Fm G m_X1_shuffles Q) 0 0 ((h.sI a0 16 ((h.I a0 16) + 1)).sI (a0 + 55) (Int32.toNatClampNeg (h.I a0 16)) x1) 17 [some (.ref a0), some (.int x1), some (.int (x2 + 1))] [])) : z_V l G m_X1_shuffles (z_Fm G m_X1_shuffles Q) 0 0 h 17 [some (.ref a0), some (.int x1), some (.int x2)] [] := by
  refine z_iload_n (q := 18) (i := 2) (x := x2) dX1_shuffles_17 rfl rfl rfl ?_
  refine z_aload_n (q := 19) (i := 0) (x := a0) dX1_shuffles_18 rfl rfl rfl ?_
  obtain ⟨g_1, hf⟩ := hf
  obtain ⟨b_2, g_3, hf⟩ := hf
  refine z_get 0 4 (q := 22) (v := .ref b_2) rfl (z_lt rfl) (z_L0_T g_1) q510 dX1_shuffles_19 rfl (z_fvR (fun _ _ _ => rfl) g_3) ?_
  obtain ⟨g_4, hf⟩ := hf
  refine z_getN 8 2 (q := 25) (v := .ref (b_2 + 4)) rfl (z_lt rfl) (z_L8_T g_4) (z_nwm q338 rfl) dX1_shuffles_22 rfl (z_fvR (fun _ _ _ => rfl) (z_L8_P2 g_4)) ?_
  refine z_iload_n (q := 26) (i := 1) (x := x1) dX1_shuffles_25 rfl rfl rfl ?_
  obtain ⟨g_5, hf⟩ := hf
  refine z_iald (q := 27) (n := 8) (z_L8_A2 g_4) g_5 dX1_shuffles_26 rfl ?_
  refine z_icmp_ge (q := 30) (tgt := 53) dX1_shuffles_27 rfl rfl (fun hc => ?_) (fun hc => ?_)
  · have hf := hf.1 hc
    refine z_iinc (q := 56) (i := 1) (x := x1) (v := (x1 + 1)) (ls2 := [some (.ref a0), some (.int (x1 + 1)), some (.int x2)]) dX1_shuffles_53 rfl rfl (z_lt rfl) rfl rfl ?_
    refine z_goto (q := 7) dX1_shuffles_56 rfl ?_
    refine z_prune [true, true, false] (ls2 := [some (.ref a0), some (.int (x1 + 1)), none]) rfl ?_
    exact hf
  · have hf := hf.2 hc
    refine z_aload_n (q := 31) (i := 0) (x := a0) dX1_shuffles_30 rfl rfl rfl ?_
    refine z_get 0 15 (q := 34) (v := .ref (a0 + 55)) rfl (z_lt rfl) (z_L0_T g_1) q521 dX1_shuffles_31 rfl (z_fvR (fun _ _ _ => rfl) (z_L0_P15 g_1)) ?_
    refine z_aload_n (q := 35) (i := 0) (x := a0) dX1_shuffles_34 rfl rfl rfl ?_
    refine z_dup (q := 36) dX1_shuffles_35 rfl rfl ?_
    refine z_get 0 16 (q := 39) (v := .int (h.I a0 16)) rfl (z_lt rfl) (z_L0_T g_1) q522 dX1_shuffles_36 rfl rfl ?_
    refine z_dup_x1 (q := 40) dX1_shuffles_39 rfl rfl rfl ?_
    refine z_iconst (q := 41) (v := 1) dX1_shuffles_40 rfl rfl ?_
    refine z_iadd (q := 42) dX1_shuffles_41 rfl ?_
    refine z_putI 0 16 (q := 45) (x := ((h.I a0 16) + 1)) (v := .int ((h.I a0 16) + 1)) rfl (z_lt rfl) (z_L0_T g_1) q522 rfl dX1_shuffles_42 rfl rfl rfl rfl (fun _ _ _ => rfl) ?_
    refine z_iload_n (q := 46) (i := 1) (x := x1) dX1_shuffles_45 rfl rfl rfl ?_
    obtain ⟨g_6, hf⟩ := hf
    refine z_iast (q := 47) (n := 24) (z_L0_A15 g_1) g_6 dX1_shuffles_46 rfl ?_
    refine z_iinc (q := 50) (i := 2) (x := x2) (v := (x2 + 1)) (ls2 := [some (.ref a0), some (.int x1), some (.int (x2 + 1))]) dX1_shuffles_47 rfl rfl (z_lt rfl) rfl rfl ?_
    refine z_goto (q := 17) dX1_shuffles_50 rfl ?_
    exact hf

