set_option maxRecDepth 100000
set_option maxHeartbeats 4000000
theorem u_X1_slip {l : Launch} {G : z_G} {a0 : Nat} {x1 : Int32} {h : z_H} {Q : z_Q} (hst : l.stackTraces = false)  (hf : z_Ct l G m_X1_in [.int x1, .int 0, .int 2] h (z_Qi (fun x_1 h_2 => (x_1 = 0 → Q (some (.int 0)) h_2) ∧ (¬ x_1 = 0 → z_L0 h_2 a0 ∧ (0 ≤ (h_2.I (a0 + 23) 12) → Q (some (.int 0)) h_2) ∧ (¬ 0 ≤ (h_2.I (a0 + 23) 12) → (x1 = 1 → ((h_2.I (a0 + 23) 16) = 0 → (x1 = 1 → z_V l G m_X1_slip (z_Fm G m_X1_slip Q) 63 3526 h_2 59 [some (.ref a0), some (.int x1), none, none, none] []) ∧ (¬ x1 = 1 → z_Ct l G m_X11_cards [.ref (a0 + 23), .int (h_2.I (a0 + 23) 11)] h_2 (z_Qi (fun x_6 h_7 => (2 ≤ x_6 → z_V l G m_X1_slip (z_Fm G m_X1_slip Q) 63 3526 h_7 59 [some (.ref a0), some (.int x1), none, none, none] []) ∧ (¬ 2 ≤ x_6 → Q (some (.int 0)) h_7))))) ∧ (¬ (h_2.I (a0 + 23) 16) = 0 → Q (some (.int 0)) h_2)) ∧ (¬ x1 = 1 → (x1 = 1 → z_V l G m_X1_slip (z_Fm G m_X1_slip Q) 63 3526 h_2 59 [some (.ref a0), some (.int x1), none, none, none] []) ∧ (¬ x1 = 1 → z_Ct l G m_X11_cards [.ref (a0 + 23), .int (h_2.I (a0 + 23) 11)] h_2 (z_Qi (fun x_4 h_5 => (2 ≤ x_4 → z_V l G m_X1_slip (z_Fm G m_X1_slip Q) 63 3526 h_5 59 [some (.ref a0), some (.int x1), none, none, none] []) ∧ (¬ 2 ≤ x_4 → Q (some (.int 0)) h_5)))))))))) : z_Ct l G m_X1_slip [.ref a0, .int x1] h Q := by
  refine z_Ct.of (ls := [some (.ref a0), some (.int x1), none, none, none]) hst rfl (by show plainName yX1_slip.cls = true; decide +kernel) (z_le rfl) rfl ?_
  show z_V l G m_X1_slip (z_Fm G m_X1_slip Q) 63 3526 h 0 [some (.ref a0), some (.int x1), none, none, none] []
  refine z_iload_n (q := 1) (i := 1) (x := x1) dX1_slip_0 rfl rfl rfl ?_
  refine z_iconst (q := 2) (v := 0) dX1_slip_1 rfl rfl ?_
  refine z_iconst (q := 3) (v := 2) dX1_slip_2 rfl rfl ?_
  refine z_cSi m_X1_in [.int x1, .int 0, .int 2] (q := 6) (rc2 := 63) (rs2 := 3526) (st := []) dX1_slip_3 rfl q1259 oS_X1_in rfl rfl ⟨z_le rfl, z_le rfl⟩ (z_le rfl) rfl  rfl hf (fun x_1 h_2 hf => ?_)
  refine z_if_eq (q := 9) (tgt := 57) dX1_slip_6 rfl rfl (fun hc => ?_) (fun hc => ?_)
  · have hf := hf.1 hc
    refine z_iconst (q := 58) (v := 0) dX1_slip_57 rfl rfl ?_
    exact z_zret dX1_slip_58 rfl (z_nb01 z_b0) hf
  · have hf := hf.2 hc
    refine z_aload_n (q := 10) (i := 0) (x := a0) dX1_slip_9 rfl rfl rfl ?_
    obtain ⟨g_3, hf⟩ := hf
    refine z_get 0 6 (q := 13) (v := .ref (a0 + 23)) rfl (z_lt rfl) (z_L0_T g_3) q512 dX1_slip_10 rfl (z_fvR (fun _ _ _ => rfl) (z_L0_P6 g_3)) ?_
    refine z_getN 9 12 (q := 16) (v := .int (h_2.I (a0 + 23) 12)) rfl (z_lt rfl) (z_L9_T (z_L0_N6 g_3)) (z_nwm q402 rfl) dX1_slip_13 rfl rfl ?_
    refine z_if_ge (q := 19) (tgt := 57) dX1_slip_16 rfl rfl (fun hc => ?_) (fun hc => ?_)
    · have hf := hf.1 hc
      refine z_iconst (q := 58) (v := 0) dX1_slip_57 rfl rfl ?_
      exact z_zret dX1_slip_58 rfl (z_nb01 z_b0) hf
    · have hf := hf.2 hc
      refine z_iload_n (q := 20) (i := 1) (x := x1) dX1_slip_19 rfl rfl rfl ?_
      refine z_iconst (q := 21) (v := 1) dX1_slip_20 rfl rfl ?_
      refine z_icmp_ne (q := 24) (tgt := 34) dX1_slip_21 rfl rfl (fun hc => ?_) (fun hc => ?_)
      · have hf := hf.2 hc
        refine z_iload_n (q := 35) (i := 1) (x := x1) dX1_slip_34 rfl rfl rfl ?_
        refine z_iconst (q := 36) (v := 1) dX1_slip_35 rfl rfl ?_
        refine z_icmp_eq (q := 39) (tgt := 59) dX1_slip_36 rfl rfl (fun hc => ?_) (fun hc => ?_)
        · have hf := hf.1 hc
          exact hf
        · have hf := hf.2 hc
          refine z_aload_n (q := 40) (i := 0) (x := a0) dX1_slip_39 rfl rfl rfl ?_
          refine z_get 0 6 (q := 43) (v := .ref (a0 + 23)) rfl (z_lt rfl) (z_L0_T g_3) q512 dX1_slip_40 rfl (z_fvR (fun _ _ _ => rfl) (z_L0_P6 g_3)) ?_
          refine z_aload_n (q := 44) (i := 0) (x := a0) dX1_slip_43 rfl rfl rfl ?_
          refine z_get 0 6 (q := 47) (v := .ref (a0 + 23)) rfl (z_lt rfl) (z_L0_T g_3) q512 dX1_slip_44 rfl (z_fvR (fun _ _ _ => rfl) (z_L0_P6 g_3)) ?_
          refine z_getN 9 11 (q := 50) (v := .int (h_2.I (a0 + 23) 11)) rfl (z_lt rfl) (z_L9_T (z_L0_N6 g_3)) (z_nwm q399 rfl) dX1_slip_47 rfl rfl ?_
          refine z_cVi m_X11_cards [.int (h_2.I (a0 + 23) 11)] ((a0 + 23)) (q := 53) (rc2 := 63) (rs2 := 3526) (st := []) dX1_slip_50 rfl q1262 oV_X11_cards rfl rfl ⟨z_le rfl, z_le rfl⟩ (z_le rfl) (z_rcv_of 9 rfl (z_L9_T (z_L0_N6 g_3)) rfl) rfl  rfl hf (fun x_4 h_5 hf => ?_)
          refine z_iconst (q := 54) (v := 2) dX1_slip_53 rfl rfl ?_
          refine z_icmp_ge (q := 57) (tgt := 59) dX1_slip_54 rfl rfl (fun hc => ?_) (fun hc => ?_)
          · have hf := hf.1 hc
            exact hf
          · have hf := hf.2 hc
            refine z_iconst (q := 58) (v := 0) dX1_slip_57 rfl rfl ?_
            exact z_zret dX1_slip_58 rfl (z_nb01 z_b0) hf
      · have hf := hf.1 hc
        refine z_aload_n (q := 25) (i := 0) (x := a0) dX1_slip_24 rfl rfl rfl ?_
        refine z_get 0 6 (q := 28) (v := .ref (a0 + 23)) rfl (z_lt rfl) (z_L0_T g_3) q512 dX1_slip_25 rfl (z_fvR (fun _ _ _ => rfl) (z_L0_P6 g_3)) ?_
        refine z_getN 9 16 (q := 31) (v := .int (h_2.I (a0 + 23) 16)) rfl (z_lt rfl) (z_L9_T (z_L0_N6 g_3)) (z_nwm q412 rfl) dX1_slip_28 rfl rfl ?_
        refine z_if_ne (q := 34) (tgt := 57) dX1_slip_31 rfl rfl (fun hc => ?_) (fun hc => ?_)
        · have hf := hf.2 hc
          refine z_iconst (q := 58) (v := 0) dX1_slip_57 rfl rfl ?_
          exact z_zret dX1_slip_58 rfl (z_nb01 z_b0) hf
        · have hf := hf.1 hc
          refine z_iload_n (q := 35) (i := 1) (x := x1) dX1_slip_34 rfl rfl rfl ?_
          refine z_iconst (q := 36) (v := 1) dX1_slip_35 rfl rfl ?_
          refine z_icmp_eq (q := 39) (tgt := 59) dX1_slip_36 rfl rfl (fun hc => ?_) (fun hc => ?_)
          · have hf := hf.1 hc
            exact hf
          · have hf := hf.2 hc
            refine z_aload_n (q := 40) (i := 0) (x := a0) dX1_slip_39 rfl rfl rfl ?_
            refine z_get 0 6 (q := 43) (v := .ref (a0 + 23)) rfl (z_lt rfl) (z_L0_T g_3) q512 dX1_slip_40 rfl (z_fvR (fun _ _ _ => rfl) (z_L0_P6 g_3)) ?_
            refine z_aload_n (q := 44) (i := 0) (x := a0) dX1_slip_43 rfl rfl rfl ?_
            refine z_get 0 6 (q := 47) (v := .ref (a0 + 23)) rfl (z_lt rfl) (z_L0_T g_3) q512 dX1_slip_44 rfl (z_fvR (fun _ _ _ => rfl) (z_L0_P6 g_3)) ?_
            refine z_getN 9 11 (q := 50) (v := .int (h_2.I (a0 + 23) 11)) rfl (z_lt rfl) (z_L9_T (z_L0_N6 g_3)) (z_nwm q399 rfl) dX1_slip_47 rfl rfl ?_
            refine z_cVi m_X11_cards [.int (h_2.I (a0 + 23) 11)] ((a0 + 23)) (q := 53) (rc2 := 63) (rs2 := 3526) (st := []) dX1_slip_50 rfl q1262 oV_X11_cards rfl rfl ⟨z_le rfl, z_le rfl⟩ (z_le rfl) (z_rcv_of 9 rfl (z_L9_T (z_L0_N6 g_3)) rfl) rfl  rfl hf (fun x_6 h_7 hf => ?_)
            refine z_iconst (q := 54) (v := 2) dX1_slip_53 rfl rfl ?_
            refine z_icmp_ge (q := 57) (tgt := 59) dX1_slip_54 rfl rfl (fun hc => ?_) (fun hc => ?_)
            · have hf := hf.1 hc
              exact hf
            · have hf := hf.2 hc
              refine z_iconst (q := 58) (v := 0) dX1_slip_57 rfl rfl ?_
              exact z_zret dX1_slip_58 rfl (z_nb01 z_b0) hf

theorem b_X1_slip_59 {l : Launch} {G : z_G} {rc rs : Nat} {a0 : Nat} {x1 : Int32} {h : z_H} {Q : z_Q}  (hf : ∃ rc_1, rc = rc_1 + 61 ∧ ∃ rs_3, rs = rs_3 + 3458 ∧ z_L0 h a0 ∧ z_Ct l G m_X1_keeps [.ref a0] h (z_Qv (fun h_6 => z_L0 h_6 a0 ∧ ∀ v_8 : Int32, v_8 = (h_6.I (a0 + 23) 11) → (x1 = 0 → z_Ct l G m_X11_turnsUp [.ref (a0 + 23)] h_6 (z_Qv (fun h_20 => ∃ rc_21, rc_1 = rc_21 + 2 ∧ ∃ rs_23, rs_3 = rs_23 + 68 ∧ z_L0 h_20 a0 ∧ z_Ct l G m_X1_turns [.ref a0] h_20 (z_Qi (fun x_26 h_27 => Q (some (.int 1)) h_27))))) ∧ (¬ x1 = 0 → (x1 = 1 → Q (some (.int 1)) (h_6.sI (a0 + 23) 16 1)) ∧ (¬ x1 = 1 → ((v_8 = 0 → vp_in 0 48 ∧ True) ∧ (¬ v_8 = 0 → vp_in 0 48 ∧ True)) ∧ ∀ v_14 : Int32, v_14 = (if v_8 = 0 then (h_6.I (a0 + 28) (Int32.toNatClampNeg 0)) else (h_6.I (a0 + 29) (Int32.toNatClampNeg 0))) → z_Ct l G m_X11_gives [.ref (a0 + 23), .int v_8] h_6 (z_Qi (fun x_16 h_17 => z_L0 h_17 a0 ∧ z_Ct l G m_X11_gets [.ref (a0 + 23), .int v_8, .int x_16, .int v_14] h_17 (z_Qv (fun h_19 => Q (some (.int 1)) h_19))))))))) : z_V l G m_X1_slip (z_Fm G m_X1_slip Q) rc rs h 59 [some (.ref a0), some (.int x1), none, none, none] [] := by
  refine z_aload_n (q := 60) (i := 0) (x := a0) dX1_slip_59 rfl rfl rfl ?_
  obtain ⟨rc_1, g_2, hf⟩ := hf
  obtain ⟨rs_3, g_4, hf⟩ := hf
  obtain ⟨g_5, hf⟩ := hf
  refine z_cVv m_X1_keeps [] (a0) (q := 63) (rc2 := rc_1) (rs2 := rs_3) (st := []) dX1_slip_60 rfl q1291 oV_X1_keeps rfl rfl ⟨z_le rfl, z_le rfl⟩ (z_le rfl) (z_rcv_of 0 rfl (z_L0_T g_5) rfl) g_2  g_4 hf (fun h_6 hf => ?_)
  refine z_aload_n (q := 64) (i := 0) (x := a0) dX1_slip_63 rfl rfl rfl ?_
  obtain ⟨g_7, hf⟩ := hf
  refine z_get 0 6 (q := 67) (v := .ref (a0 + 23)) rfl (z_lt rfl) (z_L0_T g_7) q512 dX1_slip_64 rfl (z_fvR (fun _ _ _ => rfl) (z_L0_P6 g_7)) ?_
  refine z_getN 9 11 (q := 70) (v := .int (h_6.I (a0 + 23) 11)) rfl (z_lt rfl) (z_L9_T (z_L0_N6 g_7)) (z_nwm q399 rfl) dX1_slip_67 rfl rfl ?_
  refine z_nmI (fun v_8 hv_9 => ?_)
  have hf := hf v_8 hv_9
  refine z_istore_n (q := 71) (i := 2) (ls2 := [some (.ref a0), some (.int x1), some (.int v_8), none, none]) (x := v_8) dX1_slip_70 rfl (z_lt rfl) rfl rfl ?_
  refine z_iload_n (q := 72) (i := 1) (x := x1) dX1_slip_71 rfl rfl rfl ?_
  refine z_if_ne (q := 75) (tgt := 90) dX1_slip_72 rfl rfl (fun hc => ?_) (fun hc => ?_)
  · have hf := hf.2 hc
    refine z_iload_n (q := 91) (i := 1) (x := x1) dX1_slip_90 rfl rfl rfl ?_
    refine z_iconst (q := 92) (v := 1) dX1_slip_91 rfl rfl ?_
    refine z_icmp_ne (q := 95) (tgt := 106) dX1_slip_92 rfl rfl (fun hc => ?_) (fun hc => ?_)
    · have hf := hf.2 hc
      refine z_iload_n (q := 107) (i := 2) (x := v_8) dX1_slip_106 rfl rfl rfl ?_
      obtain ⟨hsc, hf⟩ := hf
      have hk : z_V l G m_X1_slip (z_Fm G m_X1_slip Q) rc_1 rs_3 h_6 131 [some (.ref a0), some (.int x1), some (.int v_8), none, none] [.int (if v_8 = 0 then (h_6.I (a0 + 28) (Int32.toNatClampNeg 0)) else (h_6.I (a0 + 29) (Int32.toNatClampNeg 0)))] := by
        refine z_nmI (fun v_14 hv_15 => ?_)
        have hf := hf v_14 hv_15
        refine z_istore_n (q := 132) (i := 3) (ls2 := [some (.ref a0), some (.int x1), some (.int v_8), some (.int v_14), none]) (x := v_14) dX1_slip_131 rfl (z_lt rfl) rfl rfl ?_
        refine z_aload_n (q := 133) (i := 0) (x := a0) dX1_slip_132 rfl rfl rfl ?_
        refine z_get 0 6 (q := 136) (v := .ref (a0 + 23)) rfl (z_lt rfl) (z_L0_T g_7) q512 dX1_slip_133 rfl (z_fvR (fun _ _ _ => rfl) (z_L0_P6 g_7)) ?_
        refine z_iload_n (q := 137) (i := 2) (x := v_8) dX1_slip_136 rfl rfl rfl ?_
        refine z_cVi m_X11_gives [.int v_8] ((a0 + 23)) (q := 140) (rc2 := rc_1) (rs2 := rs_3) (st := []) dX1_slip_137 rfl q1401 oV_X11_gives rfl rfl ⟨z_le rfl, z_le rfl⟩ (z_le rfl) (z_rcv_of 9 rfl (z_L9_T (z_L0_N6 g_7)) rfl) rfl  rfl hf (fun x_16 h_17 hf => ?_)
        refine z_istore (q := 142) (i := 4) (ls2 := [some (.ref a0), some (.int x1), some (.int v_8), some (.int v_14), some (.int x_16)]) (x := x_16) dX1_slip_140 (z_lt rfl) rfl rfl ?_
        refine z_aload_n (q := 143) (i := 0) (x := a0) dX1_slip_142 rfl rfl rfl ?_
        obtain ⟨g_18, hf⟩ := hf
        refine z_get 0 6 (q := 146) (v := .ref (a0 + 23)) rfl (z_lt rfl) (z_L0_T g_18) q512 dX1_slip_143 rfl (z_fvR (fun _ _ _ => rfl) (z_L0_P6 g_18)) ?_
        refine z_iload_n (q := 147) (i := 2) (x := v_8) dX1_slip_146 rfl rfl rfl ?_
        refine z_iload (q := 149) (i := 4) (x := x_16) dX1_slip_147 rfl rfl ?_
        refine z_iload_n (q := 150) (i := 3) (x := v_14) dX1_slip_149 rfl rfl rfl ?_
        refine z_cVv m_X11_gets [.int v_8, .int x_16, .int v_14] ((a0 + 23)) (q := 153) (rc2 := rc_1) (rs2 := rs_3) (st := []) dX1_slip_150 rfl q1184 oV_X11_gets rfl rfl ⟨z_le rfl, z_le rfl⟩ (z_le rfl) (z_rcv_of 9 rfl (z_L9_T (z_L0_N6 g_18)) rfl) rfl  rfl hf (fun h_19 hf => ?_)
        refine z_iconst (q := 154) (v := 1) dX1_slip_153 rfl rfl ?_
        exact z_zret dX1_slip_154 rfl (z_nb01 z_b1) hf
      refine z_if_ne (q := 110) (tgt := 122) dX1_slip_107 rfl rfl (fun hc => ?_) (fun hc => ?_)
      · have hk := (z_ite hk).2 hc
        have hsc := hsc.2 hc
        obtain ⟨g_12, hsc⟩ := hsc
        refine z_aload_n (q := 123) (i := 0) (x := a0) dX1_slip_122 rfl rfl rfl ?_
        refine z_get 0 6 (q := 126) (v := .ref (a0 + 23)) rfl (z_lt rfl) (z_L0_T g_7) q512 dX1_slip_123 rfl (z_fvR (fun _ _ _ => rfl) (z_L0_P6 g_7)) ?_
        refine z_getN 9 5 (q := 129) (v := .ref (a0 + 29)) rfl (z_lt rfl) (z_L9_T (z_L0_N6 g_7)) (z_nwm q384 rfl) dX1_slip_126 rfl (z_fvR (fun _ _ _ => rfl) (z_L9_P5 (z_L0_N6 g_7))) ?_
        refine z_iconst (q := 130) (v := 0) dX1_slip_129 rfl rfl ?_
        refine z_zald (q := 131) (n := 48) (z_L9_A5 (z_L0_N6 g_7)) g_12 dX1_slip_130 rfl ?_
        exact hk
      · have hk := (z_ite hk).1 hc
        have hsc := hsc.1 hc
        obtain ⟨g_13, hsc⟩ := hsc
        refine z_aload_n (q := 111) (i := 0) (x := a0) dX1_slip_110 rfl rfl rfl ?_
        refine z_get 0 6 (q := 114) (v := .ref (a0 + 23)) rfl (z_lt rfl) (z_L0_T g_7) q512 dX1_slip_111 rfl (z_fvR (fun _ _ _ => rfl) (z_L0_P6 g_7)) ?_
        refine z_getN 9 4 (q := 117) (v := .ref (a0 + 28)) rfl (z_lt rfl) (z_L9_T (z_L0_N6 g_7)) (z_nwm q382 rfl) dX1_slip_114 rfl (z_fvR (fun _ _ _ => rfl) (z_L9_P4 (z_L0_N6 g_7))) ?_
        refine z_iconst (q := 118) (v := 0) dX1_slip_117 rfl rfl ?_
        refine z_zald (q := 119) (n := 48) (z_L9_A4 (z_L0_N6 g_7)) g_13 dX1_slip_118 rfl ?_
        refine z_goto (q := 131) dX1_slip_119 rfl ?_
        exact hk
    · have hf := hf.1 hc
      refine z_aload_n (q := 96) (i := 0) (x := a0) dX1_slip_95 rfl rfl rfl ?_
      refine z_get 0 6 (q := 99) (v := .ref (a0 + 23)) rfl (z_lt rfl) (z_L0_T g_7) q512 dX1_slip_96 rfl (z_fvR (fun _ _ _ => rfl) (z_L0_P6 g_7)) ?_
      refine z_iconst (q := 100) (v := 1) dX1_slip_99 rfl rfl ?_
      refine z_putIN 9 16 (q := 103) (x := 1) (v := .int 1) rfl (z_lt rfl) (z_L9_T (z_L0_N6 g_7)) (z_nwm q412 rfl) rfl dX1_slip_100 rfl rfl rfl rfl (fun _ _ _ => rfl) ?_
      refine z_goto (q := 153) dX1_slip_103 rfl ?_
      refine z_iconst (q := 154) (v := 1) dX1_slip_153 rfl rfl ?_
      exact z_zret dX1_slip_154 rfl (z_nb01 z_b1) hf
  · have hf := hf.1 hc
    refine z_aload_n (q := 76) (i := 0) (x := a0) dX1_slip_75 rfl rfl rfl ?_
    refine z_get 0 6 (q := 79) (v := .ref (a0 + 23)) rfl (z_lt rfl) (z_L0_T g_7) q512 dX1_slip_76 rfl (z_fvR (fun _ _ _ => rfl) (z_L0_P6 g_7)) ?_
    refine z_cVNv m_X11_turnsUp [] ((a0 + 23)) (q := 82) (rc2 := rc_1) (rs2 := rs_3) (st := []) dX1_slip_79 rfl (z_nwm q1400 rfl) oV_X11_turnsUp rfl rfl ⟨z_le rfl, z_le rfl⟩ (z_le rfl) (z_rcv_of 9 rfl (z_L9_T (z_L0_N6 g_7)) rfl) rfl  rfl hf (fun h_20 hf => ?_)
    refine z_aload_n (q := 83) (i := 0) (x := a0) dX1_slip_82 rfl rfl rfl ?_
    obtain ⟨rc_21, g_22, hf⟩ := hf
    obtain ⟨rs_23, g_24, hf⟩ := hf
    obtain ⟨g_25, hf⟩ := hf
    refine z_cVi m_X1_turns [] (a0) (q := 86) (rc2 := rc_21) (rs2 := rs_23) (st := []) dX1_slip_83 rfl q1311 oV_X1_turns rfl rfl ⟨z_le rfl, z_le rfl⟩ (z_le rfl) (z_rcv_of 0 rfl (z_L0_T g_25) rfl) g_22  g_24 hf (fun x_26 h_27 hf => ?_)
    refine z_pop (q := 87) dX1_slip_86 rfl rfl ?_
    refine z_goto (q := 153) dX1_slip_87 rfl ?_
    refine z_iconst (q := 154) (v := 1) dX1_slip_153 rfl rfl ?_
    exact z_zret dX1_slip_154 rfl (z_nb01 z_b1) hf

theorem u_X1_table {l : Launch} {G : z_G} {mc ms : Nat} {a0 : Nat} {h : z_H} {Q : z_Q} (hst : l.stackTraces = false)  (hf : z_L0 h a0 ∧ z_Ct l G m_X1_reads [.ref a0] h (z_Qv (fun h_2 => z_L0 h_2 a0 ∧ ∃ mc_4, ∃ ms_5, ∃ rc_6, mc = rc_6 + mc_4 ∧ ∃ rs_8, ms = rs_8 + ms_5 ∧ z_Cz l G (m_X2_table mc_4 ms_5) [.ref (a0 + 2)] h_2 (z_Qr (fun b_10 h_11 => z_L0 h_11 a0 ∧ z_L0 (h_11.sP a0 4 (some b_10)) a0 ∧ ∃ b_14, (h_11.P a0 5) = some b_14 ∧ (h_11.T b_14).1 = 31 ∧ z_Ct l G m_J2_clear [.ref b_14] (h_11.sP a0 4 (some b_10)) (z_Qv (fun h_17 => z_L0 h_17 a0 ∧ z_Ct l G m_X1_begins [.ref a0] ((h_17.sI (a0 + 49) 1 0).sI (a0 + 51) 1 0) (z_Qv (fun h_19 => z_L0 h_19 a0 ∧ z_V l G (m_X1_table mc ms) (z_Fm G (m_X1_table mc ms) Q) rc_6 rs_8 (h_19.sI a0 12 0) 58 [some (.ref a0), some (.int 0)] [])))))) (fun C0 b_21 h_22 => C0 = "BeggarHeaps$Wrong" ∧ (h_22.T b_21).1 = 22 ∧ Q (some (.int (h_22.I b_21 6))) h_22)))) : z_CtW l G (m_X1_table mc ms) ([((4 : Nat), (15 : Nat), (18 : Nat), (139 : Nat))]) [.ref a0] h Q := by
  refine z_CtW.of (ls := [some (.ref a0), none]) hst rfl (by show plainName yX1_table.cls = true; decide +kernel) (z_le rfl) rfl ?_
  show z_V l G (m_X1_table mc ms) (z_Fm G (m_X1_table mc ms) Q) mc ms h 0 [some (.ref a0), none] []
  refine z_aload_n (q := 1) (i := 0) (x := a0) dX1_table_0 rfl rfl rfl ?_
  obtain ⟨g_1, hf⟩ := hf
  refine z_cVv m_X1_reads [] (a0) (q := 4) (rc2 := mc) (rs2 := ms) (st := []) dX1_table_1 rfl q585 oV_X1_reads rfl rfl ⟨z_le rfl, z_le rfl⟩ (z_le rfl) (z_rcv_of 0 rfl (z_L0_T g_1) rfl) rfl  rfl hf (fun h_2 hf => ?_)
  refine z_aload_n (q := 5) (i := 0) (x := a0) dX1_table_4 rfl rfl rfl ?_
  refine z_aload_n (q := 6) (i := 0) (x := a0) dX1_table_5 rfl rfl rfl ?_
  obtain ⟨g_3, hf⟩ := hf
  refine z_get 0 1 (q := 9) (v := .ref (a0 + 2)) rfl (z_lt rfl) (z_L0_T g_3) q505 dX1_table_6 rfl (z_fvR (fun _ _ _ => rfl) (z_L0_P1 g_3)) ?_
  obtain ⟨mc_4, hf⟩ := hf
  obtain ⟨ms_5, hf⟩ := hf
  obtain ⟨rc_6, g_7, hf⟩ := hf
  obtain ⟨rs_8, g_9, hf⟩ := hf
  refine z_cXr (m_X2_table mc_4 ms_5) [] ((a0 + 2)) (q := 12) (rc2 := rc_6) (rs2 := rs_8) (st := [.ref a0]) dX1_table_9 rfl q694 (oV_X2_table _ _) rfl rfl ⟨z_le rfl, z_le rfl⟩ (z_le rfl) (z_rcv_of 1 rfl (z_L0_N1 g_3) rfl) g_7  g_9 hf (fun C0 b_21 h_22 hX => ?_) (fun b_10 h_11 hf => ?_)
  · obtain ⟨rfl, hf⟩ := hX
    refine z_catch (name := "BeggarHeaps$Wrong") rfl (z_le rfl) (z_lt rfl) (by decide) q584 (Or.inl rfl) (z_nwm q733 rfl) ?_
    refine z_astore_n (q := 19) (i := 1) (ls2 := [some (.ref a0), some (.ref b_21)]) (x := b_21) dX1_table_18 rfl (z_lt rfl) rfl rfl ?_
    refine z_aload_n (q := 20) (i := 1) (x := b_21) dX1_table_19 rfl rfl rfl ?_
    obtain ⟨g_23, hf⟩ := hf
    refine z_getN 12 6 (q := 23) (v := .int (h_22.I b_21 6)) rfl (z_lt rfl) g_23 (z_nwm q784 rfl) dX1_table_20 rfl rfl ?_
    exact z_iret dX1_table_23 rfl hf
  · skip
    obtain ⟨g_12, hf⟩ := hf
    refine z_putP 0 4 (q := 15) (x := some b_10) (v := .ref b_10) rfl (z_lt rfl) (z_L0_T g_12) q510 rfl dX1_table_12 rfl rfl rfl rfl (fun _ _ _ => rfl) ?_
    refine z_goto (q := 24) dX1_table_15 rfl ?_
    refine z_aload_n (q := 25) (i := 0) (x := a0) dX1_table_24 rfl rfl rfl ?_
    obtain ⟨g_13, hf⟩ := hf
    obtain ⟨b_14, g_15, hf⟩ := hf
    refine z_get 0 5 (q := 28) (v := .ref b_14) rfl (z_lt rfl) (z_L0_T g_13) q511 dX1_table_25 rfl (z_fvR (fun _ _ _ => rfl) (Eq.trans (z_rPf (by decide)) g_15)) ?_
    obtain ⟨g_16, hf⟩ := hf
    refine z_cVv m_J2_clear [] (b_14) (q := 31) (rc2 := rc_6) (rs2 := rs_8) (st := []) dX1_table_28 rfl q1175 oV_J2_clear rfl rfl ⟨z_le rfl, z_le rfl⟩ (z_le rfl) (z_rcv_of 21 rfl g_16 rfl) rfl  rfl hf (fun h_17 hf => ?_)
    refine z_aload_n (q := 32) (i := 0) (x := a0) dX1_table_31 rfl rfl rfl ?_
    obtain ⟨g_18, hf⟩ := hf
    refine z_get 0 8 (q := 35) (v := .ref (a0 + 49)) rfl (z_lt rfl) (z_L0_T g_18) q514 dX1_table_32 rfl (z_fvR (fun _ _ _ => rfl) (z_L0_P8 g_18)) ?_
    refine z_iconst (q := 36) (v := 0) dX1_table_35 rfl rfl ?_
    refine z_putIN 10 1 (q := 39) (x := 0) (v := .int 0) rfl (z_lt rfl) (z_L10_T (z_L0_N8 g_18)) (z_nwm q486 rfl) rfl dX1_table_36 rfl rfl rfl rfl (fun _ _ _ => rfl) ?_
    refine z_aload_n (q := 40) (i := 0) (x := a0) dX1_table_39 rfl rfl rfl ?_
    refine z_get 0 9 (q := 43) (v := .ref (a0 + 51)) rfl (z_lt rfl) (z_L0_T g_18) q515 dX1_table_40 rfl (z_fvR (fun _ _ _ => rfl) (z_L0_P9 g_18)) ?_
    refine z_iconst (q := 44) (v := 0) dX1_table_43 rfl rfl ?_
    refine z_putIN 10 1 (q := 47) (x := 0) (v := .int 0) rfl (z_lt rfl) (z_L10_T (z_L0_N9 g_18)) (z_nwm q486 rfl) rfl dX1_table_44 rfl rfl rfl rfl (fun _ _ _ => rfl) ?_
    refine z_aload_n (q := 48) (i := 0) (x := a0) dX1_table_47 rfl rfl rfl ?_
    refine z_cVv m_X1_begins [] (a0) (q := 51) (rc2 := rc_6) (rs2 := rs_8) (st := []) dX1_table_48 rfl q1176 oV_X1_begins rfl rfl ⟨z_le rfl, z_le rfl⟩ (z_le rfl) (z_rcv_of 0 rfl (z_L0_T g_18) rfl) rfl  rfl hf (fun h_19 hf => ?_)
    refine z_aload_n (q := 52) (i := 0) (x := a0) dX1_table_51 rfl rfl rfl ?_
    refine z_iconst (q := 53) (v := 0) dX1_table_52 rfl rfl ?_
    obtain ⟨g_20, hf⟩ := hf
    refine z_putI 0 12 (q := 56) (x := 0) (v := .int 0) rfl (z_lt rfl) (z_L0_T g_20) q518 rfl dX1_table_53 rfl rfl rfl rfl (fun _ _ _ => rfl) ?_
    refine z_iconst (q := 57) (v := 0) dX1_table_56 rfl rfl ?_
    refine z_istore_n (q := 58) (i := 1) (ls2 := [some (.ref a0), some (.int 0)]) (x := 0) dX1_table_57 rfl (z_lt rfl) rfl rfl ?_
    exact hf

theorem b_X1_table_58 {l : Launch} {G : z_G} {mc ms : Nat} {rc rs : Nat} {a0 : Nat} {x1 : Int32} {h : z_H} {Q : z_Q}  (hf : (4 ≤ x1 → Q (some (.int 0)) h) ∧ (¬ 4 ≤ x1 → z_L0 h a0 ∧ vp_in x1 4 ∧ z_V l G (m_X1_table mc ms) (z_Fm G (m_X1_table mc ms) Q) rc rs (h.sP (a0 + 59) (Int32.toNatClampNeg x1) none) 58 [some (.ref a0), some (.int (x1 + 1))] [])) : z_V l G (m_X1_table mc ms) (z_Fm G (m_X1_table mc ms) Q) rc rs h 58 [some (.ref a0), some (.int x1)] [] := by
  refine z_iload_n (q := 59) (i := 1) (x := x1) dX1_table_58 rfl rfl rfl ?_
  refine z_iconst (q := 60) (v := 4) dX1_table_59 rfl rfl ?_
  refine z_icmp_ge (q := 63) (tgt := 76) dX1_table_60 rfl rfl (fun hc => ?_) (fun hc => ?_)
  · have hf := hf.1 hc
    refine z_iconst (q := 77) (v := 0) dX1_table_76 rfl rfl ?_
    exact z_iret dX1_table_77 rfl hf
  · have hf := hf.2 hc
    refine z_aload_n (q := 64) (i := 0) (x := a0) dX1_table_63 rfl rfl rfl ?_
    obtain ⟨g_1, hf⟩ := hf
    refine z_get 0 22 (q := 67) (v := .ref (a0 + 59)) rfl (z_lt rfl) (z_L0_T g_1) q528 dX1_table_64 rfl (z_fvR (fun _ _ _ => rfl) (z_L0_P22 g_1)) ?_
    refine z_iload_n (q := 68) (i := 1) (x := x1) dX1_table_67 rfl rfl rfl ?_
    refine z_null (q := 69) dX1_table_68 rfl ?_
    obtain ⟨g_2, hf⟩ := hf
    refine z_aastN (q := 70) (n := 4) (z_L0_A22 g_1) (by decide) g_2 dX1_table_69 rfl ?_
    refine z_iinc (q := 73) (i := 1) (x := x1) (v := (x1 + 1)) (ls2 := [some (.ref a0), some (.int (x1 + 1))]) dX1_table_70 rfl rfl (z_lt rfl) rfl rfl ?_
    refine z_goto (q := 58) dX1_table_73 rfl ?_
    exact hf

theorem u_X1_take {l : Launch} {G : z_G} {a0 : Nat} {x1 : Int32} {h : z_H} {Q : z_Q} (hst : l.stackTraces = false)  (hf : z_Ct l G m_X1_isSide [.int x1] h (z_Qi (fun x_1 h_2 => (x_1 = 0 → Q (some (.int (-1))) h_2) ∧ (¬ x_1 = 0 → z_L0 h_2 a0 ∧ z_Ct l G m_X1_goesThrough [.ref a0] h_2 (z_Qi (fun x_4 h_5 => (x_4 = 0 → Q (some (.int (-1))) h_5) ∧ (¬ x_4 = 0 → z_L0 h_5 a0 ∧ vp_in 0 4 ∧ vp_in 1 4 ∧ vp_in 2 4 ∧ vp_in 3 4 ∧ vp_in x1 4 ∧ ∀ v_12 : Int32, v_12 = (((((h_5.I (a0 + 56) (Int32.toNatClampNeg 0)) + (h_5.I (a0 + 56) (Int32.toNatClampNeg 1))) + (h_5.I (a0 + 56) (Int32.toNatClampNeg 2))) + (h_5.I (a0 + 56) (Int32.toNatClampNeg 3))) - (h_5.I (a0 + 56) (Int32.toNatClampNeg x1))) → vp_in x1 4 ∧ z_Ct l G m_X1_offer [.ref a0] h_5 (z_Qi (fun x_15 h_16 => Q (some (.int (if ((h_5.I (a0 + 56) (Int32.toNatClampNeg x1)) * x_15) ≤ (v_12 * 10) then 0 else 1))) h_16))))))))) : z_Ct l G m_X1_take [.ref a0, .int x1] h Q := by
  refine z_Ct.of (ls := [some (.ref a0), some (.int x1), none]) hst rfl (by show plainName yX1_take.cls = true; decide +kernel) (z_le rfl) rfl ?_
  show z_V l G m_X1_take (z_Fm G m_X1_take Q) 1 8 h 0 [some (.ref a0), some (.int x1), none] []
  refine z_iload_n (q := 1) (i := 1) (x := x1) dX1_take_0 rfl rfl rfl ?_
  refine z_cSi m_X1_isSide [.int x1] (q := 4) (rc2 := 1) (rs2 := 8) (st := []) dX1_take_1 rfl q1274 oS_X1_isSide rfl rfl ⟨z_le rfl, z_le rfl⟩ (z_le rfl) rfl  rfl hf (fun x_1 h_2 hf => ?_)
  refine z_if_eq (q := 7) (tgt := 14) dX1_take_4 rfl rfl (fun hc => ?_) (fun hc => ?_)
  · have hf := hf.1 hc
    refine z_iconst (q := 15) (v := (-1)) dX1_take_14 rfl rfl ?_
    exact z_iret dX1_take_15 rfl hf
  · have hf := hf.2 hc
    refine z_aload_n (q := 8) (i := 0) (x := a0) dX1_take_7 rfl rfl rfl ?_
    obtain ⟨g_3, hf⟩ := hf
    refine z_cVi m_X1_goesThrough [] (a0) (q := 11) (rc2 := 0) (rs2 := 0) (st := []) dX1_take_8 rfl q1523 oV_X1_goesThrough rfl rfl ⟨z_le rfl, z_le rfl⟩ (z_le rfl) (z_rcv_of 0 rfl (z_L0_T g_3) rfl) rfl  rfl hf (fun x_4 h_5 hf => ?_)
    refine z_if_ne (q := 14) (tgt := 16) dX1_take_11 rfl rfl (fun hc => ?_) (fun hc => ?_)
    · have hf := hf.2 hc
      refine z_aload_n (q := 17) (i := 0) (x := a0) dX1_take_16 rfl rfl rfl ?_
      obtain ⟨g_6, hf⟩ := hf
      refine z_get 0 17 (q := 20) (v := .ref (a0 + 56)) rfl (z_lt rfl) (z_L0_T g_6) q523 dX1_take_17 rfl (z_fvR (fun _ _ _ => rfl) (z_L0_P17 g_6)) ?_
      refine z_iconst (q := 21) (v := 0) dX1_take_20 rfl rfl ?_
      obtain ⟨g_7, hf⟩ := hf
      refine z_iald (q := 22) (n := 4) (z_L0_A17 g_6) g_7 dX1_take_21 rfl ?_
      refine z_aload_n (q := 23) (i := 0) (x := a0) dX1_take_22 rfl rfl rfl ?_
      refine z_get 0 17 (q := 26) (v := .ref (a0 + 56)) rfl (z_lt rfl) (z_L0_T g_6) q523 dX1_take_23 rfl (z_fvR (fun _ _ _ => rfl) (z_L0_P17 g_6)) ?_
      refine z_iconst (q := 27) (v := 1) dX1_take_26 rfl rfl ?_
      obtain ⟨g_8, hf⟩ := hf
      refine z_iald (q := 28) (n := 4) (z_L0_A17 g_6) g_8 dX1_take_27 rfl ?_
      refine z_iadd (q := 29) dX1_take_28 rfl ?_
      refine z_aload_n (q := 30) (i := 0) (x := a0) dX1_take_29 rfl rfl rfl ?_
      refine z_get 0 17 (q := 33) (v := .ref (a0 + 56)) rfl (z_lt rfl) (z_L0_T g_6) q523 dX1_take_30 rfl (z_fvR (fun _ _ _ => rfl) (z_L0_P17 g_6)) ?_
      refine z_iconst (q := 34) (v := 2) dX1_take_33 rfl rfl ?_
      obtain ⟨g_9, hf⟩ := hf
      refine z_iald (q := 35) (n := 4) (z_L0_A17 g_6) g_9 dX1_take_34 rfl ?_
      refine z_iadd (q := 36) dX1_take_35 rfl ?_
      refine z_aload_n (q := 37) (i := 0) (x := a0) dX1_take_36 rfl rfl rfl ?_
      refine z_get 0 17 (q := 40) (v := .ref (a0 + 56)) rfl (z_lt rfl) (z_L0_T g_6) q523 dX1_take_37 rfl (z_fvR (fun _ _ _ => rfl) (z_L0_P17 g_6)) ?_
      refine z_iconst (q := 41) (v := 3) dX1_take_40 rfl rfl ?_
      obtain ⟨g_10, hf⟩ := hf
      refine z_iald (q := 42) (n := 4) (z_L0_A17 g_6) g_10 dX1_take_41 rfl ?_
      refine z_iadd (q := 43) dX1_take_42 rfl ?_
      refine z_aload_n (q := 44) (i := 0) (x := a0) dX1_take_43 rfl rfl rfl ?_
      refine z_get 0 17 (q := 47) (v := .ref (a0 + 56)) rfl (z_lt rfl) (z_L0_T g_6) q523 dX1_take_44 rfl (z_fvR (fun _ _ _ => rfl) (z_L0_P17 g_6)) ?_
      refine z_iload_n (q := 48) (i := 1) (x := x1) dX1_take_47 rfl rfl rfl ?_
      obtain ⟨g_11, hf⟩ := hf
      refine z_iald (q := 49) (n := 4) (z_L0_A17 g_6) g_11 dX1_take_48 rfl ?_
      refine z_isub (q := 50) dX1_take_49 rfl ?_
      refine z_nmI (fun v_12 hv_13 => ?_)
      have hf := hf v_12 hv_13
      refine z_istore_n (q := 51) (i := 2) (ls2 := [some (.ref a0), some (.int x1), some (.int v_12)]) (x := v_12) dX1_take_50 rfl (z_lt rfl) rfl rfl ?_
      refine z_aload_n (q := 52) (i := 0) (x := a0) dX1_take_51 rfl rfl rfl ?_
      refine z_get 0 17 (q := 55) (v := .ref (a0 + 56)) rfl (z_lt rfl) (z_L0_T g_6) q523 dX1_take_52 rfl (z_fvR (fun _ _ _ => rfl) (z_L0_P17 g_6)) ?_
      refine z_iload_n (q := 56) (i := 1) (x := x1) dX1_take_55 rfl rfl rfl ?_
      obtain ⟨g_14, hf⟩ := hf
      refine z_iald (q := 57) (n := 4) (z_L0_A17 g_6) g_14 dX1_take_56 rfl ?_
      refine z_aload_n (q := 58) (i := 0) (x := a0) dX1_take_57 rfl rfl rfl ?_
      refine z_cVi m_X1_offer [] (a0) (q := 61) (rc2 := 0) (rs2 := 0) (st := [.int (h_5.I (a0 + 56) (Int32.toNatClampNeg x1))]) dX1_take_58 rfl q1555 oV_X1_offer rfl rfl ⟨z_le rfl, z_le rfl⟩ (z_le rfl) (z_rcv_of 0 rfl (z_L0_T g_6) rfl) rfl  rfl hf (fun x_15 h_16 hf => ?_)
      refine z_imul (q := 62) dX1_take_61 rfl ?_
      refine z_iload_n (q := 63) (i := 2) (x := v_12) dX1_take_62 rfl rfl rfl ?_
      refine z_bipush (q := 65) (v := 10) dX1_take_63 (by decide) rfl ?_
      refine z_imul (q := 66) dX1_take_65 rfl ?_
      have hk : z_V l G m_X1_take (z_Fm G m_X1_take Q) 0 0 h_16 74 [some (.ref a0), some (.int x1), some (.int v_12)] [.int (if ((h_5.I (a0 + 56) (Int32.toNatClampNeg x1)) * x_15) ≤ (v_12 * 10) then 0 else 1)] := by
        exact z_iret dX1_take_74 rfl hf
      refine z_icmp_le (q := 69) (tgt := 73) dX1_take_66 rfl rfl (fun hc => ?_) (fun hc => ?_)
      · have hk := (z_ite hk).1 hc
        refine z_iconst (q := 74) (v := 0) dX1_take_73 rfl rfl ?_
        exact hk
      · have hk := (z_ite hk).2 hc
        refine z_iconst (q := 70) (v := 1) dX1_take_69 rfl rfl ?_
        refine z_goto (q := 74) dX1_take_70 rfl ?_
        exact hk
    · have hf := hf.1 hc
      refine z_iconst (q := 15) (v := (-1)) dX1_take_14 rfl rfl ?_
      exact z_iret dX1_take_15 rfl hf

theorem u_X1_taken {l : Launch} {G : z_G} {a0 : Nat} {x1 : Int32} {x2 : Int32} {h : z_H} {Q : z_Q} (hst : l.stackTraces = false)  (hf : z_L0 h a0 ∧ z_Ct l G m_J2_size [.ref (a0 + 30)] h (z_Qi (fun x_2 h_3 => z_Ct l G m_X1_in [.int x1, .int 0, .int (x_2 - 1)] h_3 (z_Qi (fun x_4 h_5 => (x_4 = 0 → Q (some (.int (-1))) h_5) ∧ (¬ x_4 = 0 → z_Ct l G m_X1_in [.int x2, .int 0, .int 3] h_5 (z_Qi (fun x_6 h_7 => (x_6 = 0 → Q (some (.int (-1))) h_7) ∧ (¬ x_6 = 0 → z_L0 h_7 a0 ∧ z_Ct l G m_J2_get [.ref (a0 + 30), .int ((x_2 - 1) - x1)] h_7 (z_Qr (fun b_9 h_10 => (h_10.T b_9).1 = 28 ∧ Q (some (.int (if x2 = 0 then (h_10.I b_9 0) else (if x2 = 1 then (h_10.I b_9 1) else (if x2 = 2 then (h_10.I b_9 2) else (h_10.I b_9 3)))))) h_10))))))))))) : z_Ct l G m_X1_taken [.ref a0, .int x1, .int x2] h Q := by
  refine z_Ct.of (ls := [some (.ref a0), some (.int x1), some (.int x2), none, none]) hst rfl (by show plainName yX1_taken.cls = true; decide +kernel) (z_le rfl) rfl ?_
  show z_V l G m_X1_taken (z_Fm G m_X1_taken Q) 0 0 h 0 [some (.ref a0), some (.int x1), some (.int x2), none, none] []
  refine z_aload_n (q := 1) (i := 0) (x := a0) dX1_taken_0 rfl rfl rfl ?_
  obtain ⟨g_1, hf⟩ := hf
  refine z_get 0 6 (q := 4) (v := .ref (a0 + 23)) rfl (z_lt rfl) (z_L0_T g_1) q512 dX1_taken_1 rfl (z_fvR (fun _ _ _ => rfl) (z_L0_P6 g_1)) ?_
  refine z_getN 9 17 (q := 7) (v := .ref (a0 + 30)) rfl (z_lt rfl) (z_L9_T (z_L0_N6 g_1)) (z_nwm q414 rfl) dX1_taken_4 rfl (z_fvR (fun _ _ _ => rfl) (z_L9_P17 (z_L0_N6 g_1))) ?_
  refine z_cVi m_J2_size [] ((a0 + 30)) (q := 10) (rc2 := 0) (rs2 := 0) (st := []) dX1_taken_7 rfl q1258 oV_J2_size rfl rfl ⟨z_le rfl, z_le rfl⟩ (z_le rfl) (z_rcv_of 21 rfl (z_L9_N17 (z_L0_N6 g_1)) rfl) rfl  rfl hf (fun x_2 h_3 hf => ?_)
  refine z_istore_n (q := 11) (i := 3) (ls2 := [some (.ref a0), some (.int x1), some (.int x2), some (.int x_2), none]) (x := x_2) dX1_taken_10 rfl (z_lt rfl) rfl rfl ?_
  refine z_iload_n (q := 12) (i := 1) (x := x1) dX1_taken_11 rfl rfl rfl ?_
  refine z_iconst (q := 13) (v := 0) dX1_taken_12 rfl rfl ?_
  refine z_iload_n (q := 14) (i := 3) (x := x_2) dX1_taken_13 rfl rfl rfl ?_
  refine z_iconst (q := 15) (v := 1) dX1_taken_14 rfl rfl ?_
  refine z_isub (q := 16) dX1_taken_15 rfl ?_
  refine z_cSi m_X1_in [.int x1, .int 0, .int (x_2 - 1)] (q := 19) (rc2 := 0) (rs2 := 0) (st := []) dX1_taken_16 rfl q1259 oS_X1_in rfl rfl ⟨z_le rfl, z_le rfl⟩ (z_le rfl) rfl  rfl hf (fun x_4 h_5 hf => ?_)
  refine z_if_eq (q := 22) (tgt := 31) dX1_taken_19 rfl rfl (fun hc => ?_) (fun hc => ?_)
  · have hf := hf.1 hc
    refine z_iconst (q := 32) (v := (-1)) dX1_taken_31 rfl rfl ?_
    exact z_iret dX1_taken_32 rfl hf
  · have hf := hf.2 hc
    refine z_iload_n (q := 23) (i := 2) (x := x2) dX1_taken_22 rfl rfl rfl ?_
    refine z_iconst (q := 24) (v := 0) dX1_taken_23 rfl rfl ?_
    refine z_iconst (q := 25) (v := 3) dX1_taken_24 rfl rfl ?_
    refine z_cSi m_X1_in [.int x2, .int 0, .int 3] (q := 28) (rc2 := 0) (rs2 := 0) (st := []) dX1_taken_25 rfl q1259 oS_X1_in rfl rfl ⟨z_le rfl, z_le rfl⟩ (z_le rfl) rfl  rfl hf (fun x_6 h_7 hf => ?_)
    refine z_if_ne (q := 31) (tgt := 33) dX1_taken_28 rfl rfl (fun hc => ?_) (fun hc => ?_)
    · have hf := hf.2 hc
      refine z_aload_n (q := 34) (i := 0) (x := a0) dX1_taken_33 rfl rfl rfl ?_
      obtain ⟨g_8, hf⟩ := hf
      refine z_get 0 6 (q := 37) (v := .ref (a0 + 23)) rfl (z_lt rfl) (z_L0_T g_8) q512 dX1_taken_34 rfl (z_fvR (fun _ _ _ => rfl) (z_L0_P6 g_8)) ?_
      refine z_getN 9 17 (q := 40) (v := .ref (a0 + 30)) rfl (z_lt rfl) (z_L9_T (z_L0_N6 g_8)) (z_nwm q414 rfl) dX1_taken_37 rfl (z_fvR (fun _ _ _ => rfl) (z_L9_P17 (z_L0_N6 g_8))) ?_
      refine z_iload_n (q := 41) (i := 3) (x := x_2) dX1_taken_40 rfl rfl rfl ?_
      refine z_iconst (q := 42) (v := 1) dX1_taken_41 rfl rfl ?_
      refine z_isub (q := 43) dX1_taken_42 rfl ?_
      refine z_iload_n (q := 44) (i := 1) (x := x1) dX1_taken_43 rfl rfl rfl ?_
      refine z_isub (q := 45) dX1_taken_44 rfl ?_
      refine z_cVr m_J2_get [.int ((x_2 - 1) - x1)] ((a0 + 30)) (q := 48) (rc2 := 0) (rs2 := 0) (st := []) dX1_taken_45 rfl q1285 oV_J2_get rfl rfl ⟨z_le rfl, z_le rfl⟩ (z_le rfl) (z_rcv_of 21 rfl (z_L9_N17 (z_L0_N6 g_8)) rfl) rfl  rfl hf (fun b_9 h_10 hf => ?_)
      obtain ⟨g_11, hf⟩ := hf
      refine z_cast (C0 := "BeggarHeaps$Heap") (nm := "BeggarHeaps$Heap") (z_rcv_of 18 rfl g_11 rfl) (Or.inl rfl) q1286 dX1_taken_48 rfl ?_
      refine z_astore (q := 53) (i := 4) (ls2 := [some (.ref a0), some (.int x1), some (.int x2), some (.int x_2), some (.ref b_9)]) (x := b_9) dX1_taken_51 (z_lt rfl) rfl rfl ?_
      refine z_iload_n (q := 54) (i := 2) (x := x2) dX1_taken_53 rfl rfl rfl ?_
      have hk : z_V l G m_X1_taken (z_Fm G m_X1_taken Q) 0 0 h_10 96 [some (.ref a0), some (.int x1), some (.int x2), some (.int x_2), some (.ref b_9)] [.int (if x2 = 0 then (h_10.I b_9 0) else (if x2 = 1 then (h_10.I b_9 1) else (if x2 = 2 then (h_10.I b_9 2) else (h_10.I b_9 3))))] := by
        exact z_iret dX1_taken_96 rfl hf
      refine z_if_ne (q := 57) (tgt := 65) dX1_taken_54 rfl rfl (fun hc => ?_) (fun hc => ?_)
      · have hk := (z_ite hk).2 hc
        refine z_iload_n (q := 66) (i := 2) (x := x2) dX1_taken_65 rfl rfl rfl ?_
        refine z_iconst (q := 67) (v := 1) dX1_taken_66 rfl rfl ?_
        refine z_icmp_ne (q := 70) (tgt := 78) dX1_taken_67 rfl rfl (fun hc => ?_) (fun hc => ?_)
        · have hk := (z_ite hk).2 hc
          refine z_iload_n (q := 79) (i := 2) (x := x2) dX1_taken_78 rfl rfl rfl ?_
          refine z_iconst (q := 80) (v := 2) dX1_taken_79 rfl rfl ?_
          refine z_icmp_ne (q := 83) (tgt := 91) dX1_taken_80 rfl rfl (fun hc => ?_) (fun hc => ?_)
          · have hk := (z_ite hk).2 hc
            refine z_aload (q := 93) (i := 4) (x := b_9) dX1_taken_91 rfl rfl ?_
            refine z_getN 18 3 (q := 96) (v := .int (h_10.I b_9 3)) rfl (z_lt rfl) g_11 (z_nwm q1353 rfl) dX1_taken_93 rfl rfl ?_
            exact hk
          · have hk := (z_ite hk).1 hc
            refine z_aload (q := 85) (i := 4) (x := b_9) dX1_taken_83 rfl rfl ?_
            refine z_getN 18 2 (q := 88) (v := .int (h_10.I b_9 2)) rfl (z_lt rfl) g_11 (z_nwm q1351 rfl) dX1_taken_85 rfl rfl ?_
            refine z_goto (q := 96) dX1_taken_88 rfl ?_
            exact hk
        · have hk := (z_ite hk).1 hc
          refine z_aload (q := 72) (i := 4) (x := b_9) dX1_taken_70 rfl rfl ?_
          refine z_getN 18 1 (q := 75) (v := .int (h_10.I b_9 1)) rfl (z_lt rfl) g_11 (z_nwm q1349 rfl) dX1_taken_72 rfl rfl ?_
          refine z_goto (q := 96) dX1_taken_75 rfl ?_
          exact hk
      · have hk := (z_ite hk).1 hc
        refine z_aload (q := 59) (i := 4) (x := b_9) dX1_taken_57 rfl rfl ?_
        refine z_getN 18 0 (q := 62) (v := .int (h_10.I b_9 0)) rfl (z_lt rfl) g_11 (z_nwm q1347 rfl) dX1_taken_59 rfl rfl ?_
        refine z_goto (q := 96) dX1_taken_62 rfl ?_
        exact hk
    · have hf := hf.1 hc
      refine z_iconst (q := 32) (v := (-1)) dX1_taken_31 rfl rfl ?_
      exact z_iret dX1_taken_32 rfl hf

theorem u_X1_taking {l : Launch} {G : z_G} {a0 : Nat} {h : z_H} {Q : z_Q} (hst : l.stackTraces = false)  (hf : z_V l G m_X1_taking (z_Fm G m_X1_taking Q) 2 68 h 4 [some (.ref a0), some (.int 0), some (.int 0)] []) : z_Ct l G m_X1_taking [.ref a0] h Q := by
  refine z_Ct.of (ls := [some (.ref a0), none, none]) hst rfl (by show plainName yX1_taking.cls = true; decide +kernel) (z_le rfl) rfl ?_
  show z_V l G m_X1_taking (z_Fm G m_X1_taking Q) 2 68 h 0 [some (.ref a0), none, none] []
  refine z_iconst (q := 1) (v := 0) dX1_taking_0 rfl rfl ?_
  refine z_istore_n (q := 2) (i := 1) (ls2 := [some (.ref a0), some (.int 0), none]) (x := 0) dX1_taking_1 rfl (z_lt rfl) rfl rfl ?_
  refine z_iconst (q := 3) (v := 0) dX1_taking_2 rfl rfl ?_
  refine z_istore_n (q := 4) (i := 2) (ls2 := [some (.ref a0), some (.int 0), some (.int 0)]) (x := 0) dX1_taking_3 rfl (z_lt rfl) rfl rfl ?_
  exact hf

theorem b_X1_taking_4 {l : Launch} {G : z_G} {rc rs : Nat} {a0 : Nat} {x1 : Int32} {x2 : Int32} {h : z_H} {Q : z_Q}  (hf : z_L0 h a0 ∧ ((h.I (a0 + 23) 8) ≤ x2 → z_Ct l G m_J2_size [.ref (a0 + 30)] ((h.sI (a0 + 23) 21 (h.I (a0 + 23) 8)).sI (a0 + 23) 22 0) (z_Qi (fun x_2 h_3 => (x_2 = 40 → z_L0 h_3 a0 ∧ z_Ct l G m_J2_remove [.ref (a0 + 30), .int 0] h_3 (z_Qr (fun b_5 h_6 => z_V l G m_X1_taking (z_Fm G m_X1_taking Q) rc rs h_6 111 [some (.ref a0), some (.int x1), none] []))) ∧ (¬ x_2 = 40 → z_V l G m_X1_taking (z_Fm G m_X1_taking Q) rc rs h_3 111 [some (.ref a0), some (.int x1), none] [])))) ∧ (¬ (h.I (a0 + 23) 8) ≤ x2 → vp_in x2 48 ∧ vp_in x2 48 ∧ ∃ b_9, (h.P a0 4) = some b_9 ∧ z_L8 h b_9 ∧ vp_in x2 48 ∧ vp_in (h.I (a0 + 26) (Int32.toNatClampNeg x2)) 8 ∧ (((h.sI (a0 + 34) (Int32.toNatClampNeg x2) (h.I (a0 + 26) (Int32.toNatClampNeg x2))).I (b_9 + 3) (Int32.toNatClampNeg (h.I (a0 + 26) (Int32.toNatClampNeg x2)))) ≤ 0 → z_V l G m_X1_taking (z_Fm G m_X1_taking Q) rc rs (h.sI (a0 + 34) (Int32.toNatClampNeg x2) (h.I (a0 + 26) (Int32.toNatClampNeg x2))) 4 [some (.ref a0), some (.int x1), some (.int (x2 + 1))] []) ∧ (¬ ((h.sI (a0 + 34) (Int32.toNatClampNeg x2) (h.I (a0 + 26) (Int32.toNatClampNeg x2))).I (b_9 + 3) (Int32.toNatClampNeg (h.I (a0 + 26) (Int32.toNatClampNeg x2)))) ≤ 0 → z_V l G m_X1_taking (z_Fm G m_X1_taking Q) rc rs (h.sI (a0 + 34) (Int32.toNatClampNeg x2) (h.I (a0 + 26) (Int32.toNatClampNeg x2))) 4 [some (.ref a0), some (.int (x1 + 1)), some (.int (x2 + 1))] []))) : z_V l G m_X1_taking (z_Fm G m_X1_taking Q) rc rs h 4 [some (.ref a0), some (.int x1), some (.int x2)] [] := by
  refine z_iload_n (q := 5) (i := 2) (x := x2) dX1_taking_4 rfl rfl rfl ?_
  refine z_aload_n (q := 6) (i := 0) (x := a0) dX1_taking_5 rfl rfl rfl ?_
  obtain ⟨g_1, hf⟩ := hf
  refine z_get 0 6 (q := 9) (v := .ref (a0 + 23)) rfl (z_lt rfl) (z_L0_T g_1) q512 dX1_taking_6 rfl (z_fvR (fun _ _ _ => rfl) (z_L0_P6 g_1)) ?_
  refine z_getN 9 8 (q := 12) (v := .int (h.I (a0 + 23) 8)) rfl (z_lt rfl) (z_L9_T (z_L0_N6 g_1)) (z_nwm q392 rfl) dX1_taking_9 rfl rfl ?_
  refine z_icmp_ge (q := 15) (tgt := 62) dX1_taking_12 rfl rfl (fun hc => ?_) (fun hc => ?_)
  · have hf := hf.1 hc
    refine z_aload_n (q := 63) (i := 0) (x := a0) dX1_taking_62 rfl rfl rfl ?_
    refine z_get 0 6 (q := 66) (v := .ref (a0 + 23)) rfl (z_lt rfl) (z_L0_T g_1) q512 dX1_taking_63 rfl (z_fvR (fun _ _ _ => rfl) (z_L0_P6 g_1)) ?_
    refine z_aload_n (q := 67) (i := 0) (x := a0) dX1_taking_66 rfl rfl rfl ?_
    refine z_get 0 6 (q := 70) (v := .ref (a0 + 23)) rfl (z_lt rfl) (z_L0_T g_1) q512 dX1_taking_67 rfl (z_fvR (fun _ _ _ => rfl) (z_L0_P6 g_1)) ?_
    refine z_getN 9 8 (q := 73) (v := .int (h.I (a0 + 23) 8)) rfl (z_lt rfl) (z_L9_T (z_L0_N6 g_1)) (z_nwm q392 rfl) dX1_taking_70 rfl rfl ?_
    refine z_putIN 9 21 (q := 76) (x := (h.I (a0 + 23) 8)) (v := .int (h.I (a0 + 23) 8)) rfl (z_lt rfl) (z_L9_T (z_L0_N6 g_1)) (z_nwm q422 rfl) rfl dX1_taking_73 rfl rfl rfl rfl (fun _ _ _ => rfl) ?_
    refine z_aload_n (q := 77) (i := 0) (x := a0) dX1_taking_76 rfl rfl rfl ?_
    refine z_get 0 6 (q := 80) (v := .ref (a0 + 23)) rfl (z_lt rfl) (z_L0_T g_1) q512 dX1_taking_77 rfl (z_fvR (fun _ _ _ => rfl) (z_L0_P6 g_1)) ?_
    refine z_iconst (q := 81) (v := 0) dX1_taking_80 rfl rfl ?_
    refine z_putIN 9 22 (q := 84) (x := 0) (v := .int 0) rfl (z_lt rfl) (z_L9_T (z_L0_N6 g_1)) (z_nwm q424 rfl) rfl dX1_taking_81 rfl rfl rfl rfl (fun _ _ _ => rfl) ?_
    refine z_aload_n (q := 85) (i := 0) (x := a0) dX1_taking_84 rfl rfl rfl ?_
    refine z_get 0 6 (q := 88) (v := .ref (a0 + 23)) rfl (z_lt rfl) (z_L0_T g_1) q512 dX1_taking_85 rfl (z_fvR (fun _ _ _ => rfl) (z_L0_P6 g_1)) ?_
    refine z_getN 9 17 (q := 91) (v := .ref (a0 + 30)) rfl (z_lt rfl) (z_L9_T (z_L0_N6 g_1)) (z_nwm q414 rfl) dX1_taking_88 rfl (z_fvR (fun _ _ _ => rfl) (z_L9_P17 (z_L0_N6 g_1))) ?_
    refine z_cVi m_J2_size [] ((a0 + 30)) (q := 94) (rc2 := rc) (rs2 := rs) (st := []) dX1_taking_91 rfl q1258 oV_J2_size rfl rfl ⟨z_le rfl, z_le rfl⟩ (z_le rfl) (z_rcv_of 21 rfl (z_L9_N17 (z_L0_N6 g_1)) rfl) rfl  rfl hf (fun x_2 h_3 hf => ?_)
    refine z_bipush (q := 96) (v := 40) dX1_taking_94 (by decide) rfl ?_
    refine z_icmp_ne (q := 99) (tgt := 111) dX1_taking_96 rfl rfl (fun hc => ?_) (fun hc => ?_)
    · have hf := hf.2 hc
      refine z_prune [true, true, false] (ls2 := [some (.ref a0), some (.int x1), none]) rfl ?_
      exact hf
    · have hf := hf.1 hc
      refine z_aload_n (q := 100) (i := 0) (x := a0) dX1_taking_99 rfl rfl rfl ?_
      obtain ⟨g_4, hf⟩ := hf
      refine z_get 0 6 (q := 103) (v := .ref (a0 + 23)) rfl (z_lt rfl) (z_L0_T g_4) q512 dX1_taking_100 rfl (z_fvR (fun _ _ _ => rfl) (z_L0_P6 g_4)) ?_
      refine z_getN 9 17 (q := 106) (v := .ref (a0 + 30)) rfl (z_lt rfl) (z_L9_T (z_L0_N6 g_4)) (z_nwm q414 rfl) dX1_taking_103 rfl (z_fvR (fun _ _ _ => rfl) (z_L9_P17 (z_L0_N6 g_4))) ?_
      refine z_iconst (q := 107) (v := 0) dX1_taking_106 rfl rfl ?_
      refine z_cVr m_J2_remove [.int 0] ((a0 + 30)) (q := 110) (rc2 := rc) (rs2 := rs) (st := []) dX1_taking_107 rfl q1332 oV_J2_remove rfl rfl ⟨z_le rfl, z_le rfl⟩ (z_le rfl) (z_rcv_of 21 rfl (z_L9_N17 (z_L0_N6 g_4)) rfl) rfl  rfl hf (fun b_5 h_6 hf => ?_)
      refine z_pop (q := 111) dX1_taking_110 rfl rfl ?_
      refine z_prune [true, true, false] (ls2 := [some (.ref a0), some (.int x1), none]) rfl ?_
      exact hf
  · have hf := hf.2 hc
    refine z_aload_n (q := 16) (i := 0) (x := a0) dX1_taking_15 rfl rfl rfl ?_
    refine z_get 0 6 (q := 19) (v := .ref (a0 + 23)) rfl (z_lt rfl) (z_L0_T g_1) q512 dX1_taking_16 rfl (z_fvR (fun _ _ _ => rfl) (z_L0_P6 g_1)) ?_
    refine z_getN 9 19 (q := 22) (v := .ref (a0 + 34)) rfl (z_lt rfl) (z_L9_T (z_L0_N6 g_1)) (z_nwm q418 rfl) dX1_taking_19 rfl (z_fvR (fun _ _ _ => rfl) (z_L9_P19 (z_L0_N6 g_1))) ?_
    refine z_iload_n (q := 23) (i := 2) (x := x2) dX1_taking_22 rfl rfl rfl ?_
    refine z_aload_n (q := 24) (i := 0) (x := a0) dX1_taking_23 rfl rfl rfl ?_
    refine z_get 0 6 (q := 27) (v := .ref (a0 + 23)) rfl (z_lt rfl) (z_L0_T g_1) q512 dX1_taking_24 rfl (z_fvR (fun _ _ _ => rfl) (z_L0_P6 g_1)) ?_
    refine z_getN 9 2 (q := 30) (v := .ref (a0 + 26)) rfl (z_lt rfl) (z_L9_T (z_L0_N6 g_1)) (z_nwm q379 rfl) dX1_taking_27 rfl (z_fvR (fun _ _ _ => rfl) (z_L9_P2 (z_L0_N6 g_1))) ?_
    refine z_iload_n (q := 31) (i := 2) (x := x2) dX1_taking_30 rfl rfl rfl ?_
    obtain ⟨g_7, hf⟩ := hf
    refine z_iald (q := 32) (n := 48) (z_L9_A2 (z_L0_N6 g_1)) g_7 dX1_taking_31 rfl ?_
    obtain ⟨g_8, hf⟩ := hf
    refine z_iast (q := 33) (n := 48) (z_L9_A19 (z_L0_N6 g_1)) g_8 dX1_taking_32 rfl ?_
    refine z_aload_n (q := 34) (i := 0) (x := a0) dX1_taking_33 rfl rfl rfl ?_
    obtain ⟨b_9, g_10, hf⟩ := hf
    refine z_get 0 4 (q := 37) (v := .ref b_9) rfl (z_lt rfl) (z_L0_T g_1) q510 dX1_taking_34 rfl (z_fvR (fun _ _ _ => rfl) g_10) ?_
    obtain ⟨g_11, hf⟩ := hf
    refine z_getN 8 1 (q := 40) (v := .ref (b_9 + 3)) rfl (z_lt rfl) (z_L8_T g_11) (z_nwm q334 rfl) dX1_taking_37 rfl (z_fvR (fun _ _ _ => rfl) (z_L8_P1 g_11)) ?_
    refine z_aload_n (q := 41) (i := 0) (x := a0) dX1_taking_40 rfl rfl rfl ?_
    refine z_get 0 6 (q := 44) (v := .ref (a0 + 23)) rfl (z_lt rfl) (z_L0_T g_1) q512 dX1_taking_41 rfl (z_fvR (fun _ _ _ => rfl) (z_L0_P6 g_1)) ?_
    refine z_getN 9 2 (q := 47) (v := .ref (a0 + 26)) rfl (z_lt rfl) (z_L9_T (z_L0_N6 g_1)) (z_nwm q379 rfl) dX1_taking_44 rfl (z_fvR (fun _ _ _ => rfl) (z_L9_P2 (z_L0_N6 g_1))) ?_
    refine z_iload_n (q := 48) (i := 2) (x := x2) dX1_taking_47 rfl rfl rfl ?_
    obtain ⟨g_12, hf⟩ := hf
    refine z_iald (q := 49) (n := 48) (z_L9_A2 (z_L0_N6 g_1)) g_12 dX1_taking_48 rfl ?_
    refine z_topI (z_rIa (by omega)) ?_
    obtain ⟨g_13, hf⟩ := hf
    refine z_iald (q := 50) (n := 8) (z_L8_A1 g_11) g_13 dX1_taking_49 rfl ?_
    refine z_if_le (q := 53) (tgt := 56) dX1_taking_50 rfl rfl (fun hc => ?_) (fun hc => ?_)
    · have hf := hf.1 hc
      refine z_iinc (q := 59) (i := 2) (x := x2) (v := (x2 + 1)) (ls2 := [some (.ref a0), some (.int x1), some (.int (x2 + 1))]) dX1_taking_56 rfl rfl (z_lt rfl) rfl rfl ?_
      refine z_goto (q := 4) dX1_taking_59 rfl ?_
      exact hf
    · have hf := hf.2 hc
      refine z_iinc (q := 56) (i := 1) (x := x1) (v := (x1 + 1)) (ls2 := [some (.ref a0), some (.int (x1 + 1)), some (.int x2)]) dX1_taking_53 rfl rfl (z_lt rfl) rfl rfl ?_
      refine z_iinc (q := 59) (i := 2) (x := x2) (v := (x2 + 1)) (ls2 := [some (.ref a0), some (.int (x1 + 1)), some (.int (x2 + 1))]) dX1_taking_56 rfl rfl (z_lt rfl) rfl rfl ?_
      refine z_goto (q := 4) dX1_taking_59 rfl ?_
      exact hf

theorem b_X1_taking_111 {l : Launch} {G : z_G} {rc rs : Nat} {a0 : Nat} {x1 : Int32} {h : z_H} {Q : z_Q}  (hf : z_L0 h a0 ∧ ∃ rc_2, rc = rc_2 + 1 ∧ ∃ rs_4, rs = rs_4 + 4 ∧ z_L0 (h.nw (28, 0)) a0 ∧ z_Ct l G m_X21_init [.ref (h.n), .int ((h.nw (28, 0)).I (a0 + 23) 10), .int ((h.nw (28, 0)).I (a0 + 23) 8), .int x1, .int ((h.nw (28, 0)).I (a0 + 23) 15)] (h.nw (28, 0)) (z_Qv (fun h_7 => ∃ rc_8, rc_2 = rc_8 + 1 ∧ ∃ rs_10, rs_4 = rs_10 + 64 ∧ (h_7.T (a0 + 30)).1 = 31 ∧ z_Ct l G m_J2_add [.ref (a0 + 30), .ref (h.n)] h_7 (z_Qi (fun x_13 h_14 => z_L0 h_14 a0 ∧ ∃ b_16, (h_14.P a0 4) = some b_16 ∧ z_L8 h_14 b_16 ∧ ((h_14.I (a0 + 23) 16) = 0 → ∃ b_21, (h_14.P a0 4) = some b_21 ∧ z_L8 h_14 b_21 ∧ z_Ct l G m_X10_order [.ref b_21] h_14 (z_Qi (fun x_24 h_25 => ∃ n_26, h_25.T (a0 + 3) = (6, n_26) ∧ vp_in x_24 n_26 ∧ ∃ b_29, (h_25.P (a0 + 3) (Int32.toNatClampNeg x_24)) = some b_29 ∧ z_L9 h_25 (a0 + 23) ∧ z_Ct l G m_X11_takes [.ref (a0 + 23), .ref (b_16 + 3), .ref b_29] h_25 (z_Qv (fun h_32 => Q none h_32))))) ∧ (¬ (h_14.I (a0 + 23) 16) = 0 → vp_in 1 5 ∧ ∃ b_34, (h_14.P (a0 + 3) (Int32.toNatClampNeg 1)) = some b_34 ∧ z_Ct l G m_X11_takes [.ref (a0 + 23), .ref (b_16 + 3), .ref b_34] h_14 (z_Qv (fun h_36 => Q none h_36)))))))) : z_V l G m_X1_taking (z_Fm G m_X1_taking Q) rc rs h 111 [some (.ref a0), some (.int x1), none] [] := by
  refine z_aload_n (q := 112) (i := 0) (x := a0) dX1_taking_111 rfl rfl rfl ?_
  obtain ⟨g_1, hf⟩ := hf
  refine z_get 0 6 (q := 115) (v := .ref (a0 + 23)) rfl (z_lt rfl) (z_L0_T g_1) q512 dX1_taking_112 rfl (z_fvR (fun _ _ _ => rfl) (z_L0_P6 g_1)) ?_
  refine z_getN 9 17 (q := 118) (v := .ref (a0 + 30)) rfl (z_lt rfl) (z_L9_T (z_L0_N6 g_1)) (z_nwm q414 rfl) dX1_taking_115 rfl (z_fvR (fun _ _ _ => rfl) (z_L9_P17 (z_L0_N6 g_1))) ?_
  obtain ⟨rc_2, g_3, hf⟩ := hf
  obtain ⟨rs_4, g_5, hf⟩ := hf
  refine z_new 18 (q := 121) (rc2 := rc_2) (rs2 := rs_4) rfl q1286 q1341 q160 dX1_taking_118 rfl g_3 g_5 ?_
  refine z_dup (q := 122) dX1_taking_121 rfl rfl ?_
  refine z_aload_n (q := 123) (i := 0) (x := a0) dX1_taking_122 rfl rfl rfl ?_
  obtain ⟨g_6, hf⟩ := hf
  refine z_get 0 6 (q := 126) (v := .ref (a0 + 23)) rfl (z_lt rfl) (z_L0_T g_6) q512 dX1_taking_123 rfl (z_fvR (fun _ _ _ => rfl) (z_L0_P6 g_6)) ?_
  refine z_getN 9 10 (q := 129) (v := .int ((h.nw (28, 0)).I (a0 + 23) 10)) rfl (z_lt rfl) (z_L9_T (z_L0_N6 g_6)) (z_nwm q396 rfl) dX1_taking_126 rfl rfl ?_
  refine z_aload_n (q := 130) (i := 0) (x := a0) dX1_taking_129 rfl rfl rfl ?_
  refine z_get 0 6 (q := 133) (v := .ref (a0 + 23)) rfl (z_lt rfl) (z_L0_T g_6) q512 dX1_taking_130 rfl (z_fvR (fun _ _ _ => rfl) (z_L0_P6 g_6)) ?_
  refine z_getN 9 8 (q := 136) (v := .int ((h.nw (28, 0)).I (a0 + 23) 8)) rfl (z_lt rfl) (z_L9_T (z_L0_N6 g_6)) (z_nwm q392 rfl) dX1_taking_133 rfl rfl ?_
  refine z_iload_n (q := 137) (i := 1) (x := x1) dX1_taking_136 rfl rfl rfl ?_
  refine z_aload_n (q := 138) (i := 0) (x := a0) dX1_taking_137 rfl rfl rfl ?_
  refine z_get 0 6 (q := 141) (v := .ref (a0 + 23)) rfl (z_lt rfl) (z_L0_T g_6) q512 dX1_taking_138 rfl (z_fvR (fun _ _ _ => rfl) (z_L0_P6 g_6)) ?_
  refine z_getN 9 15 (q := 144) (v := .int ((h.nw (28, 0)).I (a0 + 23) 15)) rfl (z_lt rfl) (z_L9_T (z_L0_N6 g_6)) (z_nwm q410 rfl) dX1_taking_141 rfl rfl ?_
  refine z_cIv m_X21_init [.int ((h.nw (28, 0)).I (a0 + 23) 10), .int ((h.nw (28, 0)).I (a0 + 23) 8), .int x1, .int ((h.nw (28, 0)).I (a0 + 23) 15)] ((h.n)) (q := 147) (rc2 := rc_2) (rs2 := rs_4) (st := [.ref (h.n), .ref (a0 + 30)]) dX1_taking_144 rfl q1342 oI_X21_init rfl rfl ⟨z_le rfl, z_le rfl⟩ (z_le rfl) rfl  rfl hf (fun h_7 hf => ?_)
  obtain ⟨rc_8, g_9, hf⟩ := hf
  obtain ⟨rs_10, g_11, hf⟩ := hf
  obtain ⟨g_12, hf⟩ := hf
  refine z_cVi m_J2_add [.ref (h.n)] ((a0 + 30)) (q := 150) (rc2 := rc_8) (rs2 := rs_10) (st := []) dX1_taking_147 rfl q1363 oV_J2_add rfl rfl ⟨z_le rfl, z_le rfl⟩ (z_le rfl) (z_rcv_of 21 rfl g_12 rfl) g_9  g_11 hf (fun x_13 h_14 hf => ?_)
  refine z_pop (q := 151) dX1_taking_150 rfl rfl ?_
  refine z_aload_n (q := 152) (i := 0) (x := a0) dX1_taking_151 rfl rfl rfl ?_
  obtain ⟨g_15, hf⟩ := hf
  refine z_get 0 6 (q := 155) (v := .ref (a0 + 23)) rfl (z_lt rfl) (z_L0_T g_15) q512 dX1_taking_152 rfl (z_fvR (fun _ _ _ => rfl) (z_L0_P6 g_15)) ?_
  refine z_aload_n (q := 156) (i := 0) (x := a0) dX1_taking_155 rfl rfl rfl ?_
  obtain ⟨b_16, g_17, hf⟩ := hf
  refine z_get 0 4 (q := 159) (v := .ref b_16) rfl (z_lt rfl) (z_L0_T g_15) q510 dX1_taking_156 rfl (z_fvR (fun _ _ _ => rfl) g_17) ?_
  obtain ⟨g_18, hf⟩ := hf
  refine z_getN 8 1 (q := 162) (v := .ref (b_16 + 3)) rfl (z_lt rfl) (z_L8_T g_18) (z_nwm q334 rfl) dX1_taking_159 rfl (z_fvR (fun _ _ _ => rfl) (z_L8_P1 g_18)) ?_
  refine z_aload_n (q := 163) (i := 0) (x := a0) dX1_taking_162 rfl rfl rfl ?_
  refine z_get 0 6 (q := 166) (v := .ref (a0 + 23)) rfl (z_lt rfl) (z_L0_T g_15) q512 dX1_taking_163 rfl (z_fvR (fun _ _ _ => rfl) (z_L0_P6 g_15)) ?_
  refine z_getN 9 16 (q := 169) (v := .int (h_14.I (a0 + 23) 16)) rfl (z_lt rfl) (z_L9_T (z_L0_N6 g_15)) (z_nwm q412 rfl) dX1_taking_166 rfl rfl ?_
  refine z_if_eq (q := 172) (tgt := 181) dX1_taking_169 rfl rfl (fun hc => ?_) (fun hc => ?_)
  · have hf := hf.1 hc
    refine z_aload_n (q := 182) (i := 0) (x := a0) dX1_taking_181 rfl rfl rfl ?_
    refine z_get 0 2 (q := 185) (v := .ref (a0 + 3)) rfl (z_lt rfl) (z_L0_T g_15) q507 dX1_taking_182 rfl (z_fvR (fun _ _ _ => rfl) (z_L0_P2 g_15)) ?_
    refine z_aload_n (q := 186) (i := 0) (x := a0) dX1_taking_185 rfl rfl rfl ?_
    obtain ⟨b_21, g_22, hf⟩ := hf
    refine z_get 0 4 (q := 189) (v := .ref b_21) rfl (z_lt rfl) (z_L0_T g_15) q510 dX1_taking_186 rfl (z_fvR (fun _ _ _ => rfl) g_22) ?_
    obtain ⟨g_23, hf⟩ := hf
    refine z_cVi m_X10_order [] (b_21) (q := 192) (rc2 := rc_8) (rs2 := rs_10) (st := [.ref (a0 + 3), .ref (b_16 + 3), .ref (a0 + 23)]) dX1_taking_189 rfl q1364 oV_X10_order rfl rfl ⟨z_le rfl, z_le rfl⟩ (z_le rfl) (z_rcv_of 8 rfl (z_L8_T g_23) rfl) rfl  rfl hf (fun x_24 h_25 hf => ?_)
    obtain ⟨n_26, g_27, hf⟩ := hf
    obtain ⟨g_28, hf⟩ := hf
    obtain ⟨b_29, g_30, hf⟩ := hf
    refine z_aald (q := 193) (n := n_26) (v := .ref b_29) g_27 (by decide) g_28 dX1_taking_192 rfl (z_rfR g_30) ?_
    obtain ⟨g_31, hf⟩ := hf
    refine z_cVv m_X11_takes [.ref (b_16 + 3), .ref b_29] ((a0 + 23)) (q := 196) (rc2 := rc_8) (rs2 := rs_10) (st := []) dX1_taking_193 rfl q1368 oV_X11_takes rfl rfl ⟨z_le rfl, z_le rfl⟩ (z_le rfl) (z_rcv_of 9 rfl (z_L9_T g_31) rfl) rfl  rfl hf (fun h_32 hf => ?_)
    exact z_vret dX1_taking_196 rfl hf
  · have hf := hf.2 hc
    refine z_aload_n (q := 173) (i := 0) (x := a0) dX1_taking_172 rfl rfl rfl ?_
    refine z_get 0 2 (q := 176) (v := .ref (a0 + 3)) rfl (z_lt rfl) (z_L0_T g_15) q507 dX1_taking_173 rfl (z_fvR (fun _ _ _ => rfl) (z_L0_P2 g_15)) ?_
    refine z_iconst (q := 177) (v := 1) dX1_taking_176 rfl rfl ?_
    obtain ⟨g_33, hf⟩ := hf
    obtain ⟨b_34, g_35, hf⟩ := hf
    refine z_aald (q := 178) (n := 5) (v := .ref b_34) (z_L0_A2 g_15) (by decide) g_33 dX1_taking_177 rfl (z_rfR g_35) ?_
    refine z_goto (q := 193) dX1_taking_178 rfl ?_
    refine z_cVv m_X11_takes [.ref (b_16 + 3), .ref b_34] ((a0 + 23)) (q := 196) (rc2 := rc_8) (rs2 := rs_10) (st := []) dX1_taking_193 rfl q1368 oV_X11_takes rfl rfl ⟨z_le rfl, z_le rfl⟩ (z_le rfl) (z_rcv_of 9 rfl (z_L9_T (z_L0_N6 g_15)) rfl) rfl  rfl hf (fun h_36 hf => ?_)
    exact z_vret dX1_taking_196 rfl hf

theorem u_X1_tried {l : Launch} {G : z_G} {mc ms : Nat} {a0 : Nat} {x1 : Int32} {a2 : Nat} {h : z_H} {Q : z_Q} (hst : l.stackTraces = false)  (hf : z_L0 h a0 ∧ vp_in x1 14 ∧ ((h.P (a0 + 58) (Int32.toNatClampNeg x1)) = none → ∃ rc_5, mc = rc_5 + 1 ∧ ∃ rs_7, ms = rs_7 + 24 ∧ ∃ rc_9, rc_5 = rc_9 + 12 ∧ ∃ rs_11, rs_7 = rs_11 + 362 ∧ z_Ct l G m_X11_init [.ref (h.n)] (h.nw (19, 0)) (z_Qv (fun h_13 => ∃ n_14, h_13.T (a0 + 58) = (7, n_14) ∧ vp_in x1 n_14 ∧ z_L9 h_13 (h.n) ∧ z_L0 (h_13.sP (a0 + 58) (Int32.toNatClampNeg x1) (some (h.n))) a0 ∧ vp_in x1 14 ∧ ∃ b_20, some (h.n) = some b_20 ∧ z_L9 (h_13.sP (a0 + 58) (Int32.toNatClampNeg x1) (some (h.n))) b_20 ∧ z_Ct l G m_X11_be [.ref b_20, .ref a2] (h_13.sP (a0 + 58) (Int32.toNatClampNeg x1) (some (h.n))) (z_Qv (fun h_23 => z_L0 h_23 a0 ∧ vp_in x1 14 ∧ Q (some (va_rf (h_23.P (a0 + 58) (Int32.toNatClampNeg x1)))) h_23))))) ∧ (∀ b_3, (h.P (a0 + 58) (Int32.toNatClampNeg x1)) = some b_3 → vp_in x1 14 ∧ z_L9 h b_3 ∧ z_Ct l G m_X11_be [.ref b_3, .ref a2] h (z_Qv (fun h_28 => z_L0 h_28 a0 ∧ vp_in x1 14 ∧ Q (some (va_rf (h_28.P (a0 + 58) (Int32.toNatClampNeg x1)))) h_28)))) : z_Ct l G (m_X1_tried mc ms) [.ref a0, .int x1, .ref a2] h Q := by
  refine z_Ct.of (ls := [some (.ref a0), some (.int x1), some (.ref a2)]) hst rfl (by show plainName yX1_tried.cls = true; decide +kernel) (z_le rfl) rfl ?_
  show z_V l G (m_X1_tried mc ms) (z_Fm G (m_X1_tried mc ms) Q) mc ms h 0 [some (.ref a0), some (.int x1), some (.ref a2)] []
  refine z_aload_n (q := 1) (i := 0) (x := a0) dX1_tried_0 rfl rfl rfl ?_
  obtain ⟨g_1, hf⟩ := hf
  refine z_get 0 19 (q := 4) (v := .ref (a0 + 58)) rfl (z_lt rfl) (z_L0_T g_1) q525 dX1_tried_1 rfl (z_fvR (fun _ _ _ => rfl) (z_L0_P19 g_1)) ?_
  refine z_iload_n (q := 5) (i := 1) (x := x1) dX1_tried_4 rfl rfl rfl ?_
  obtain ⟨g_2, hf⟩ := hf
  refine z_aald (q := 6) (n := 14) (v := va_rf (h.P (a0 + 58) (Int32.toNatClampNeg x1))) (z_L0_A19 g_1) (by decide) g_2 dX1_tried_5 rfl rfl ?_
  rcases z_nn (h.P (a0 + 58) (Int32.toNatClampNeg x1)) with hn | ⟨b_3, g_4⟩
  · have hf := hf.1 hn
    refine z_topq hn ?_
    refine z_ifnonnullN (q := 9) dX1_tried_6 rfl ?_
    refine z_aload_n (q := 10) (i := 0) (x := a0) dX1_tried_9 rfl rfl rfl ?_
    refine z_get 0 19 (q := 13) (v := .ref (a0 + 58)) rfl (z_lt rfl) (z_L0_T g_1) q525 dX1_tried_10 rfl (z_fvR (fun _ _ _ => rfl) (z_L0_P19 g_1)) ?_
    refine z_iload_n (q := 14) (i := 1) (x := x1) dX1_tried_13 rfl rfl rfl ?_
    obtain ⟨rc_5, g_6, hf⟩ := hf
    obtain ⟨rs_7, g_8, hf⟩ := hf
    refine z_new 9 (q := 17) (rc2 := rc_5) (rs2 := rs_7) rfl q364 q365 q135 dX1_tried_14 rfl g_6 g_8 ?_
    refine z_dup (q := 18) dX1_tried_17 rfl rfl ?_
    obtain ⟨rc_9, g_10, hf⟩ := hf
    obtain ⟨rs_11, g_12, hf⟩ := hf
    refine z_cINv m_X11_init [] ((h.n)) (q := 21) (rc2 := rc_9) (rs2 := rs_11) (st := [.ref (h.n), .int x1, .ref (a0 + 58)]) dX1_tried_18 rfl (z_nwm q366 rfl) oI_X11_init rfl rfl ⟨z_le rfl, z_le rfl⟩ (z_le rfl) g_10  g_12 hf (fun h_13 hf => ?_)
    obtain ⟨n_14, g_15, hf⟩ := hf
    obtain ⟨g_16, hf⟩ := hf
    obtain ⟨g_17, hf⟩ := hf
    refine z_aast (q := 22) (c := 9) (n := n_14) g_15 (by decide) (z_L9_T g_17) ⟨_, rfl, _, rfl, Or.inl rfl⟩ g_16 dX1_tried_21 rfl ?_
    refine z_aload_n (q := 23) (i := 0) (x := a0) dX1_tried_22 rfl rfl rfl ?_
    obtain ⟨g_18, hf⟩ := hf
    refine z_get 0 19 (q := 26) (v := .ref (a0 + 58)) rfl (z_lt rfl) (z_L0_T g_18) q525 dX1_tried_23 rfl (z_fvR (fun _ _ _ => rfl) (z_L0_P19 g_18)) ?_
    refine z_iload_n (q := 27) (i := 1) (x := x1) dX1_tried_26 rfl rfl rfl ?_
    obtain ⟨g_19, hf⟩ := hf
    obtain ⟨b_20, g_21, hf⟩ := hf
    refine z_aald (q := 28) (n := 14) (v := .ref b_20) (z_L0_A19 g_18) (by decide) g_19 dX1_tried_27 rfl (z_rfR (Eq.trans z_rPs g_21)) ?_
    refine z_aload_n (q := 29) (i := 2) (x := a2) dX1_tried_28 rfl rfl rfl ?_
    obtain ⟨g_22, hf⟩ := hf
    refine z_cVv m_X11_be [.ref a2] (b_20) (q := 32) (rc2 := rc_9) (rs2 := rs_11) (st := []) dX1_tried_29 rfl q1414 oV_X11_be rfl rfl ⟨z_le rfl, z_le rfl⟩ (z_le rfl) (z_rcv_of 9 rfl (z_L9_T g_22) rfl) rfl  rfl hf (fun h_23 hf => ?_)
    refine z_aload_n (q := 33) (i := 0) (x := a0) dX1_tried_32 rfl rfl rfl ?_
    obtain ⟨g_24, hf⟩ := hf
    refine z_get 0 19 (q := 36) (v := .ref (a0 + 58)) rfl (z_lt rfl) (z_L0_T g_24) q525 dX1_tried_33 rfl (z_fvR (fun _ _ _ => rfl) (z_L0_P19 g_24)) ?_
    refine z_iload_n (q := 37) (i := 1) (x := x1) dX1_tried_36 rfl rfl rfl ?_
    obtain ⟨g_25, hf⟩ := hf
    refine z_aald (q := 38) (n := 14) (v := va_rf (h_23.P (a0 + 58) (Int32.toNatClampNeg x1))) (z_L0_A19 g_24) (by decide) g_25 dX1_tried_37 rfl rfl ?_
    exact z_aret (r := (h_23.P (a0 + 58) (Int32.toNatClampNeg x1))) rfl dX1_tried_38 rfl (Or.inl ⟨_, rfl⟩) hf
  · have hf := hf.2 b_3 g_4
    refine z_topq g_4 ?_
    refine z_ifnonnull (q := 22) dX1_tried_6 rfl ?_
    refine z_aload_n (q := 23) (i := 0) (x := a0) dX1_tried_22 rfl rfl rfl ?_
    refine z_get 0 19 (q := 26) (v := .ref (a0 + 58)) rfl (z_lt rfl) (z_L0_T g_1) q525 dX1_tried_23 rfl (z_fvR (fun _ _ _ => rfl) (z_L0_P19 g_1)) ?_
    refine z_iload_n (q := 27) (i := 1) (x := x1) dX1_tried_26 rfl rfl rfl ?_
    obtain ⟨g_26, hf⟩ := hf
    refine z_aald (q := 28) (n := 14) (v := .ref b_3) (z_L0_A19 g_1) (by decide) g_26 dX1_tried_27 rfl (z_rfR g_4) ?_
    refine z_aload_n (q := 29) (i := 2) (x := a2) dX1_tried_28 rfl rfl rfl ?_
    obtain ⟨g_27, hf⟩ := hf
    refine z_cVv m_X11_be [.ref a2] (b_3) (q := 32) (rc2 := mc) (rs2 := ms) (st := []) dX1_tried_29 rfl q1414 oV_X11_be rfl rfl ⟨z_le rfl, z_le rfl⟩ (z_le rfl) (z_rcv_of 9 rfl (z_L9_T g_27) rfl) rfl  rfl hf (fun h_28 hf => ?_)
    refine z_aload_n (q := 33) (i := 0) (x := a0) dX1_tried_32 rfl rfl rfl ?_
    obtain ⟨g_29, hf⟩ := hf
    refine z_get 0 19 (q := 36) (v := .ref (a0 + 58)) rfl (z_lt rfl) (z_L0_T g_29) q525 dX1_tried_33 rfl (z_fvR (fun _ _ _ => rfl) (z_L0_P19 g_29)) ?_
    refine z_iload_n (q := 37) (i := 1) (x := x1) dX1_tried_36 rfl rfl rfl ?_
    obtain ⟨g_30, hf⟩ := hf
    refine z_aald (q := 38) (n := 14) (v := va_rf (h_28.P (a0 + 58) (Int32.toNatClampNeg x1))) (z_L0_A19 g_29) (by decide) g_30 dX1_tried_37 rfl rfl ?_
    exact z_aret (r := (h_28.P (a0 + 58) (Int32.toNatClampNeg x1))) rfl dX1_tried_38 rfl (Or.inl ⟨_, rfl⟩) hf

theorem u_X1_tries {l : Launch} {G : z_G} {a0 : Nat} {h : z_H} {Q : z_Q} (hst : l.stackTraces = false)  (hf : z_L0 h a0 ∧ z_Ct l G m_X11_be [.ref (a0 + 36), .ref (a0 + 23)] h (z_Qv (fun h_2 => z_L0 h_2 a0 ∧ ∃ b_4, (h_2.P a0 4) = some b_4 ∧ z_L8 h_2 b_4 ∧ ∃ b_7, (h_2.P a0 4) = some b_7 ∧ z_L8 h_2 b_7 ∧ z_Ct l G m_X10_limit [.ref b_7] h_2 (z_Qi (fun x_10 h_11 => z_L7 h_11 (a0 + 9) ∧ z_Ct l G m_X9_goes [.ref (a0 + 9), .ref (a0 + 36), .ref (b_4 + 3), .int x_10] h_11 (z_Qv (fun h_13 => Q none h_13))))))) : z_Ct l G m_X1_tries [.ref a0] h Q := by
  refine z_Ct.of (ls := [some (.ref a0)]) hst rfl (by show plainName yX1_tries.cls = true; decide +kernel) (z_le rfl) rfl ?_
  show z_V l G m_X1_tries (z_Fm G m_X1_tries Q) 0 0 h 0 [some (.ref a0)] []
  refine z_aload_n (q := 1) (i := 0) (x := a0) dX1_tries_0 rfl rfl rfl ?_
  obtain ⟨g_1, hf⟩ := hf
  refine z_get 0 7 (q := 4) (v := .ref (a0 + 36)) rfl (z_lt rfl) (z_L0_T g_1) q513 dX1_tries_1 rfl (z_fvR (fun _ _ _ => rfl) (z_L0_P7 g_1)) ?_
  refine z_aload_n (q := 5) (i := 0) (x := a0) dX1_tries_4 rfl rfl rfl ?_
  refine z_get 0 6 (q := 8) (v := .ref (a0 + 23)) rfl (z_lt rfl) (z_L0_T g_1) q512 dX1_tries_5 rfl (z_fvR (fun _ _ _ => rfl) (z_L0_P6 g_1)) ?_
  refine z_cVv m_X11_be [.ref (a0 + 23)] ((a0 + 36)) (q := 11) (rc2 := 0) (rs2 := 0) (st := []) dX1_tries_8 rfl q1414 oV_X11_be rfl rfl ⟨z_le rfl, z_le rfl⟩ (z_le rfl) (z_rcv_of 9 rfl (z_L9_T (z_L0_N7 g_1)) rfl) rfl  rfl hf (fun h_2 hf => ?_)
  refine z_aload_n (q := 12) (i := 0) (x := a0) dX1_tries_11 rfl rfl rfl ?_
  obtain ⟨g_3, hf⟩ := hf
  refine z_get 0 3 (q := 15) (v := .ref (a0 + 9)) rfl (z_lt rfl) (z_L0_T g_3) q508 dX1_tries_12 rfl (z_fvR (fun _ _ _ => rfl) (z_L0_P3 g_3)) ?_
  refine z_aload_n (q := 16) (i := 0) (x := a0) dX1_tries_15 rfl rfl rfl ?_
  refine z_get 0 7 (q := 19) (v := .ref (a0 + 36)) rfl (z_lt rfl) (z_L0_T g_3) q513 dX1_tries_16 rfl (z_fvR (fun _ _ _ => rfl) (z_L0_P7 g_3)) ?_
  refine z_aload_n (q := 20) (i := 0) (x := a0) dX1_tries_19 rfl rfl rfl ?_
  obtain ⟨b_4, g_5, hf⟩ := hf
  refine z_get 0 4 (q := 23) (v := .ref b_4) rfl (z_lt rfl) (z_L0_T g_3) q510 dX1_tries_20 rfl (z_fvR (fun _ _ _ => rfl) g_5) ?_
  obtain ⟨g_6, hf⟩ := hf
  refine z_getN 8 1 (q := 26) (v := .ref (b_4 + 3)) rfl (z_lt rfl) (z_L8_T g_6) (z_nwm q334 rfl) dX1_tries_23 rfl (z_fvR (fun _ _ _ => rfl) (z_L8_P1 g_6)) ?_
  refine z_aload_n (q := 27) (i := 0) (x := a0) dX1_tries_26 rfl rfl rfl ?_
  obtain ⟨b_7, g_8, hf⟩ := hf
  refine z_get 0 4 (q := 30) (v := .ref b_7) rfl (z_lt rfl) (z_L0_T g_3) q510 dX1_tries_27 rfl (z_fvR (fun _ _ _ => rfl) g_8) ?_
  obtain ⟨g_9, hf⟩ := hf
  refine z_cVi m_X10_limit [] (b_7) (q := 33) (rc2 := 0) (rs2 := 0) (st := [.ref (b_4 + 3), .ref (a0 + 36), .ref (a0 + 9)]) dX1_tries_30 rfl q1415 oV_X10_limit rfl rfl ⟨z_le rfl, z_le rfl⟩ (z_le rfl) (z_rcv_of 8 rfl (z_L8_T g_9) rfl) rfl  rfl hf (fun x_10 h_11 hf => ?_)
  obtain ⟨g_12, hf⟩ := hf
  refine z_cVv m_X9_goes [.ref (a0 + 36), .ref (b_4 + 3), .int x_10] ((a0 + 9)) (q := 36) (rc2 := 0) (rs2 := 0) (st := []) dX1_tries_33 rfl q1419 oV_X9_goes rfl rfl ⟨z_le rfl, z_le rfl⟩ (z_le rfl) (z_rcv_of 7 rfl (z_L7_T g_12) rfl) rfl  rfl hf (fun h_13 hf => ?_)
  exact z_vret dX1_tries_36 rfl hf

theorem u_X1_turn {l : Launch} {G : z_G} {a0 : Nat} {x1 : Int32} {h : z_H} {Q : z_Q} (hst : l.stackTraces = false)  (hf : z_Ct l G m_X1_in [.int x1, .int 1, .int 1000] h (z_Qi (fun x_1 h_2 => (x_1 = 0 → Q (some (.int (-1))) h_2) ∧ (¬ x_1 = 0 → z_L0 h_2 a0 ∧ ((h_2.I (a0 + 23) 12) < 0 → z_Ct l G m_X1_keeps [.ref a0] h_2 (z_Qv (fun h_4 => z_V l G m_X1_turn (z_Fm G m_X1_turn Q) 2000 68000 h_4 31 [some (.ref a0), some (.int x1), some (.int 0)] []))) ∧ (¬ (h_2.I (a0 + 23) 12) < 0 → Q (some (.int 0)) h_2))))) : z_Ct l G m_X1_turn [.ref a0, .int x1] h Q := by
  refine z_Ct.of (ls := [some (.ref a0), some (.int x1), none]) hst rfl (by show plainName yX1_turn.cls = true; decide +kernel) (z_le rfl) rfl ?_
  show z_V l G m_X1_turn (z_Fm G m_X1_turn Q) 2061 71458 h 0 [some (.ref a0), some (.int x1), none] []
  refine z_iload_n (q := 1) (i := 1) (x := x1) dX1_turn_0 rfl rfl rfl ?_
  refine z_iconst (q := 2) (v := 1) dX1_turn_1 rfl rfl ?_
  refine z_sipush (q := 5) (v := 1000) dX1_turn_2 (by decide) rfl ?_
  refine z_cSi m_X1_in [.int x1, .int 1, .int 1000] (q := 8) (rc2 := 2061) (rs2 := 71458) (st := []) dX1_turn_5 rfl q1259 oS_X1_in rfl rfl ⟨z_le rfl, z_le rfl⟩ (z_le rfl) rfl  rfl hf (fun x_1 h_2 hf => ?_)
  refine z_if_ne (q := 11) (tgt := 13) dX1_turn_8 rfl rfl (fun hc => ?_) (fun hc => ?_)
  · have hf := hf.2 hc
    refine z_aload_n (q := 14) (i := 0) (x := a0) dX1_turn_13 rfl rfl rfl ?_
    obtain ⟨g_3, hf⟩ := hf
    refine z_get 0 6 (q := 17) (v := .ref (a0 + 23)) rfl (z_lt rfl) (z_L0_T g_3) q512 dX1_turn_14 rfl (z_fvR (fun _ _ _ => rfl) (z_L0_P6 g_3)) ?_
    refine z_getN 9 12 (q := 20) (v := .int (h_2.I (a0 + 23) 12)) rfl (z_lt rfl) (z_L9_T (z_L0_N6 g_3)) (z_nwm q402 rfl) dX1_turn_17 rfl rfl ?_
    refine z_if_lt (q := 23) (tgt := 25) dX1_turn_20 rfl rfl (fun hc => ?_) (fun hc => ?_)
    · have hf := hf.1 hc
      refine z_aload_n (q := 26) (i := 0) (x := a0) dX1_turn_25 rfl rfl rfl ?_
      refine z_cVv m_X1_keeps [] (a0) (q := 29) (rc2 := 2000) (rs2 := 68000) (st := []) dX1_turn_26 rfl q1291 oV_X1_keeps rfl rfl ⟨z_le rfl, z_le rfl⟩ (z_le rfl) (z_rcv_of 0 rfl (z_L0_T g_3) rfl) rfl  rfl hf (fun h_4 hf => ?_)
      refine z_iconst (q := 30) (v := 0) dX1_turn_29 rfl rfl ?_
      refine z_istore_n (q := 31) (i := 2) (ls2 := [some (.ref a0), some (.int x1), some (.int 0)]) (x := 0) dX1_turn_30 rfl (z_lt rfl) rfl rfl ?_
      exact hf
    · have hf := hf.2 hc
      refine z_iconst (q := 24) (v := 0) dX1_turn_23 rfl rfl ?_
      exact z_iret dX1_turn_24 rfl hf
  · have hf := hf.1 hc
    refine z_iconst (q := 12) (v := (-1)) dX1_turn_11 rfl rfl ?_
    exact z_iret dX1_turn_12 rfl hf

theorem b_X1_turn_31 {l : Launch} {G : z_G} {rc rs : Nat} {a0 : Nat} {x1 : Int32} {x2 : Int32} {h : z_H} {Q : z_Q}  (hf : (x1 ≤ x2 → Q (some (.int x2)) h) ∧ (¬ x1 ≤ x2 → ∃ rc_1, rc = rc_1 + 2 ∧ ∃ rs_3, rs = rs_3 + 68 ∧ z_L0 h a0 ∧ z_Ct l G m_X1_turns [.ref a0] h (z_Qi (fun x_6 h_7 => (x_6 = 0 → Q (some (.int x2)) h_7) ∧ (¬ x_6 = 0 → z_V l G m_X1_turn (z_Fm G m_X1_turn Q) rc_1 rs_3 h_7 31 [some (.ref a0), some (.int x1), some (.int (x2 + 1))] []))))) : z_V l G m_X1_turn (z_Fm G m_X1_turn Q) rc rs h 31 [some (.ref a0), some (.int x1), some (.int x2)] [] := by
  refine z_iload_n (q := 32) (i := 2) (x := x2) dX1_turn_31 rfl rfl rfl ?_
  refine z_iload_n (q := 33) (i := 1) (x := x1) dX1_turn_32 rfl rfl rfl ?_
  refine z_icmp_ge (q := 36) (tgt := 49) dX1_turn_33 rfl rfl (fun hc => ?_) (fun hc => ?_)
  · have hf := hf.1 hc
    refine z_iload_n (q := 50) (i := 2) (x := x2) dX1_turn_49 rfl rfl rfl ?_
    exact z_iret dX1_turn_50 rfl hf
  · have hf := hf.2 hc
    refine z_aload_n (q := 37) (i := 0) (x := a0) dX1_turn_36 rfl rfl rfl ?_
    obtain ⟨rc_1, g_2, hf⟩ := hf
    obtain ⟨rs_3, g_4, hf⟩ := hf
    obtain ⟨g_5, hf⟩ := hf
    refine z_cVi m_X1_turns [] (a0) (q := 40) (rc2 := rc_1) (rs2 := rs_3) (st := []) dX1_turn_37 rfl q1311 oV_X1_turns rfl rfl ⟨z_le rfl, z_le rfl⟩ (z_le rfl) (z_rcv_of 0 rfl (z_L0_T g_5) rfl) g_2  g_4 hf (fun x_6 h_7 hf => ?_)
    refine z_if_eq (q := 43) (tgt := 49) dX1_turn_40 rfl rfl (fun hc => ?_) (fun hc => ?_)
    · have hf := hf.1 hc
      refine z_iload_n (q := 50) (i := 2) (x := x2) dX1_turn_49 rfl rfl rfl ?_
      exact z_iret dX1_turn_50 rfl hf
    · have hf := hf.2 hc
      refine z_iinc (q := 46) (i := 2) (x := x2) (v := (x2 + 1)) (ls2 := [some (.ref a0), some (.int x1), some (.int (x2 + 1))]) dX1_turn_43 rfl rfl (z_lt rfl) rfl rfl ?_
      refine z_goto (q := 31) dX1_turn_46 rfl ?_
      exact hf

theorem u_X1_turns {l : Launch} {G : z_G} {a0 : Nat} {h : z_H} {Q : z_Q} (hst : l.stackTraces = false)  (hf : z_L0 h a0 ∧ ∀ v_2 : Int32, v_2 = (h.I (a0 + 23) 13) → ∃ b_4, (h.P a0 4) = some b_4 ∧ z_L8 h b_4 ∧ z_Ct l G m_X11_turned [.ref (a0 + 23), .ref (b_4 + 3)] h (z_Qi (fun x_7 h_8 => (x_7 = 0 → z_L0 h_8 a0 ∧ ((h_8.I (a0 + 23) 13) ≤ v_2 → z_Ct l G m_X1_settles [.ref a0] h_8 (z_Qv (fun h_10 => Q (some (.int 0)) h_10))) ∧ (¬ (h_8.I (a0 + 23) 13) ≤ v_2 → Q (some (.int 1)) h_8)) ∧ (¬ x_7 = 0 → z_L0 h_8 a0 ∧ z_Ct l G m_X1_taking [.ref a0] h_8 (z_Qv (fun h_12 => z_L0 h_12 a0 ∧ ((h_12.I (a0 + 23) 13) ≤ v_2 → z_Ct l G m_X1_settles [.ref a0] h_12 (z_Qv (fun h_14 => Q (some (.int 0)) h_14))) ∧ (¬ (h_12.I (a0 + 23) 13) ≤ v_2 → Q (some (.int 1)) h_12))))))) : z_Ct l G m_X1_turns [.ref a0] h Q := by
  refine z_Ct.of (ls := [some (.ref a0), none]) hst rfl (by show plainName yX1_turns.cls = true; decide +kernel) (z_le rfl) rfl ?_
  show z_V l G m_X1_turns (z_Fm G m_X1_turns Q) 2 68 h 0 [some (.ref a0), none] []
  refine z_aload_n (q := 1) (i := 0) (x := a0) dX1_turns_0 rfl rfl rfl ?_
  obtain ⟨g_1, hf⟩ := hf
  refine z_get 0 6 (q := 4) (v := .ref (a0 + 23)) rfl (z_lt rfl) (z_L0_T g_1) q512 dX1_turns_1 rfl (z_fvR (fun _ _ _ => rfl) (z_L0_P6 g_1)) ?_
  refine z_getN 9 13 (q := 7) (v := .int (h.I (a0 + 23) 13)) rfl (z_lt rfl) (z_L9_T (z_L0_N6 g_1)) (z_nwm q405 rfl) dX1_turns_4 rfl rfl ?_
  refine z_nmI (fun v_2 hv_3 => ?_)
  have hf := hf v_2 hv_3
  refine z_istore_n (q := 8) (i := 1) (ls2 := [some (.ref a0), some (.int v_2)]) (x := v_2) dX1_turns_7 rfl (z_lt rfl) rfl rfl ?_
  refine z_aload_n (q := 9) (i := 0) (x := a0) dX1_turns_8 rfl rfl rfl ?_
  refine z_get 0 6 (q := 12) (v := .ref (a0 + 23)) rfl (z_lt rfl) (z_L0_T g_1) q512 dX1_turns_9 rfl (z_fvR (fun _ _ _ => rfl) (z_L0_P6 g_1)) ?_
  refine z_aload_n (q := 13) (i := 0) (x := a0) dX1_turns_12 rfl rfl rfl ?_
  obtain ⟨b_4, g_5, hf⟩ := hf
  refine z_get 0 4 (q := 16) (v := .ref b_4) rfl (z_lt rfl) (z_L0_T g_1) q510 dX1_turns_13 rfl (z_fvR (fun _ _ _ => rfl) g_5) ?_
  obtain ⟨g_6, hf⟩ := hf
  refine z_getN 8 1 (q := 19) (v := .ref (b_4 + 3)) rfl (z_lt rfl) (z_L8_T g_6) (z_nwm q334 rfl) dX1_turns_16 rfl (z_fvR (fun _ _ _ => rfl) (z_L8_P1 g_6)) ?_
  refine z_cVi m_X11_turned [.ref (b_4 + 3)] ((a0 + 23)) (q := 22) (rc2 := 2) (rs2 := 68) (st := []) dX1_turns_19 rfl q1315 oV_X11_turned rfl rfl ⟨z_le rfl, z_le rfl⟩ (z_le rfl) (z_rcv_of 9 rfl (z_L9_T (z_L0_N6 g_1)) rfl) rfl  rfl hf (fun x_7 h_8 hf => ?_)
  refine z_if_eq (q := 25) (tgt := 29) dX1_turns_22 rfl rfl (fun hc => ?_) (fun hc => ?_)
  · have hf := hf.1 hc
    refine z_aload_n (q := 30) (i := 0) (x := a0) dX1_turns_29 rfl rfl rfl ?_
    obtain ⟨g_9, hf⟩ := hf
    refine z_get 0 6 (q := 33) (v := .ref (a0 + 23)) rfl (z_lt rfl) (z_L0_T g_9) q512 dX1_turns_30 rfl (z_fvR (fun _ _ _ => rfl) (z_L0_P6 g_9)) ?_
    refine z_getN 9 13 (q := 36) (v := .int (h_8.I (a0 + 23) 13)) rfl (z_lt rfl) (z_L9_T (z_L0_N6 g_9)) (z_nwm q405 rfl) dX1_turns_33 rfl rfl ?_
    refine z_iload_n (q := 37) (i := 1) (x := v_2) dX1_turns_36 rfl rfl rfl ?_
    refine z_icmp_le (q := 40) (tgt := 42) dX1_turns_37 rfl rfl (fun hc => ?_) (fun hc => ?_)
    · have hf := hf.1 hc
      refine z_aload_n (q := 43) (i := 0) (x := a0) dX1_turns_42 rfl rfl rfl ?_
      refine z_cVv m_X1_settles [] (a0) (q := 46) (rc2 := 2) (rs2 := 68) (st := []) dX1_turns_43 rfl q1391 oV_X1_settles rfl rfl ⟨z_le rfl, z_le rfl⟩ (z_le rfl) (z_rcv_of 0 rfl (z_L0_T g_9) rfl) rfl  rfl hf (fun h_10 hf => ?_)
      refine z_iconst (q := 47) (v := 0) dX1_turns_46 rfl rfl ?_
      exact z_zret dX1_turns_47 rfl (z_nb01 z_b0) hf
    · have hf := hf.2 hc
      refine z_iconst (q := 41) (v := 1) dX1_turns_40 rfl rfl ?_
      exact z_zret dX1_turns_41 rfl (z_nb01 z_b1) hf
  · have hf := hf.2 hc
    refine z_aload_n (q := 26) (i := 0) (x := a0) dX1_turns_25 rfl rfl rfl ?_
    obtain ⟨g_11, hf⟩ := hf
    refine z_cVv m_X1_taking [] (a0) (q := 29) (rc2 := 0) (rs2 := 0) (st := []) dX1_turns_26 rfl q1328 oV_X1_taking rfl rfl ⟨z_le rfl, z_le rfl⟩ (z_le rfl) (z_rcv_of 0 rfl (z_L0_T g_11) rfl) rfl  rfl hf (fun h_12 hf => ?_)
    refine z_aload_n (q := 30) (i := 0) (x := a0) dX1_turns_29 rfl rfl rfl ?_
    obtain ⟨g_13, hf⟩ := hf
    refine z_get 0 6 (q := 33) (v := .ref (a0 + 23)) rfl (z_lt rfl) (z_L0_T g_13) q512 dX1_turns_30 rfl (z_fvR (fun _ _ _ => rfl) (z_L0_P6 g_13)) ?_
    refine z_getN 9 13 (q := 36) (v := .int (h_12.I (a0 + 23) 13)) rfl (z_lt rfl) (z_L9_T (z_L0_N6 g_13)) (z_nwm q405 rfl) dX1_turns_33 rfl rfl ?_
    refine z_iload_n (q := 37) (i := 1) (x := v_2) dX1_turns_36 rfl rfl rfl ?_
    refine z_icmp_le (q := 40) (tgt := 42) dX1_turns_37 rfl rfl (fun hc => ?_) (fun hc => ?_)
    · have hf := hf.1 hc
      refine z_aload_n (q := 43) (i := 0) (x := a0) dX1_turns_42 rfl rfl rfl ?_
      refine z_cVv m_X1_settles [] (a0) (q := 46) (rc2 := 0) (rs2 := 0) (st := []) dX1_turns_43 rfl q1391 oV_X1_settles rfl rfl ⟨z_le rfl, z_le rfl⟩ (z_le rfl) (z_rcv_of 0 rfl (z_L0_T g_13) rfl) rfl  rfl hf (fun h_14 hf => ?_)
      refine z_iconst (q := 47) (v := 0) dX1_turns_46 rfl rfl ?_
      exact z_zret dX1_turns_47 rfl (z_nb01 z_b0) hf
    · have hf := hf.2 hc
      refine z_iconst (q := 41) (v := 1) dX1_turns_40 rfl rfl ?_
      exact z_zret dX1_turns_41 rfl (z_nb01 z_b1) hf

theorem u_X1_undo {l : Launch} {G : z_G} {a0 : Nat} {h : z_H} {Q : z_Q} (hst : l.stackTraces = false)  (hf : z_L0 h a0 ∧ ((h.I a0 14) = 0 → Q (some (.int 0)) h) ∧ (¬ (h.I a0 14) = 0 → vp_in ((h.I a0 14) - 1) 16 ∧ ∃ b_3, (h.P (a0 + 54) (Int32.toNatClampNeg ((h.I a0 14) - 1))) = some b_3 ∧ z_Ct l G m_X11_beWhole [.ref (a0 + 23), .ref b_3] (h.sI a0 14 ((h.I a0 14) - 1)) (z_Qv (fun h_5 => Q (some (.int 1)) h_5)))) : z_Ct l G m_X1_undo [.ref a0] h Q := by
  refine z_Ct.of (ls := [some (.ref a0)]) hst rfl (by show plainName yX1_undo.cls = true; decide +kernel) (z_le rfl) rfl ?_
  show z_V l G m_X1_undo (z_Fm G m_X1_undo Q) 48 3072 h 0 [some (.ref a0)] []
  refine z_aload_n (q := 1) (i := 0) (x := a0) dX1_undo_0 rfl rfl rfl ?_
  obtain ⟨g_1, hf⟩ := hf
  refine z_get 0 14 (q := 4) (v := .int (h.I a0 14)) rfl (z_lt rfl) (z_L0_T g_1) q520 dX1_undo_1 rfl rfl ?_
  refine z_if_ne (q := 7) (tgt := 9) dX1_undo_4 rfl rfl (fun hc => ?_) (fun hc => ?_)
  · have hf := hf.2 hc
    refine z_aload_n (q := 10) (i := 0) (x := a0) dX1_undo_9 rfl rfl rfl ?_
    refine z_get 0 6 (q := 13) (v := .ref (a0 + 23)) rfl (z_lt rfl) (z_L0_T g_1) q512 dX1_undo_10 rfl (z_fvR (fun _ _ _ => rfl) (z_L0_P6 g_1)) ?_
    refine z_aload_n (q := 14) (i := 0) (x := a0) dX1_undo_13 rfl rfl rfl ?_
    refine z_get 0 13 (q := 17) (v := .ref (a0 + 54)) rfl (z_lt rfl) (z_L0_T g_1) q519 dX1_undo_14 rfl (z_fvR (fun _ _ _ => rfl) (z_L0_P13 g_1)) ?_
    refine z_aload_n (q := 18) (i := 0) (x := a0) dX1_undo_17 rfl rfl rfl ?_
    refine z_dup (q := 19) dX1_undo_18 rfl rfl ?_
    refine z_get 0 14 (q := 22) (v := .int (h.I a0 14)) rfl (z_lt rfl) (z_L0_T g_1) q520 dX1_undo_19 rfl rfl ?_
    refine z_iconst (q := 23) (v := 1) dX1_undo_22 rfl rfl ?_
    refine z_isub (q := 24) dX1_undo_23 rfl ?_
    refine z_dup_x1 (q := 25) dX1_undo_24 rfl rfl rfl ?_
    refine z_putI 0 14 (q := 28) (x := ((h.I a0 14) - 1)) (v := .int ((h.I a0 14) - 1)) rfl (z_lt rfl) (z_L0_T g_1) q520 rfl dX1_undo_25 rfl rfl rfl rfl (fun _ _ _ => rfl) ?_
    obtain ⟨g_2, hf⟩ := hf
    obtain ⟨b_3, g_4, hf⟩ := hf
    refine z_aald (q := 29) (n := 16) (v := .ref b_3) (z_L0_A13 g_1) (by decide) g_2 dX1_undo_28 rfl (z_rfR g_4) ?_
    refine z_cVv m_X11_beWhole [.ref b_3] ((a0 + 23)) (q := 32) (rc2 := 0) (rs2 := 0) (st := []) dX1_undo_29 rfl q1295 oV_X11_beWhole rfl rfl ⟨z_le rfl, z_le rfl⟩ (z_le rfl) (z_rcv_of 9 rfl (z_L9_T (z_L0_N6 g_1)) rfl) rfl  rfl hf (fun h_5 hf => ?_)
    refine z_iconst (q := 33) (v := 1) dX1_undo_32 rfl rfl ?_
    exact z_zret dX1_undo_33 rfl (z_nb01 z_b1) hf
  · have hf := hf.1 hc
    refine z_iconst (q := 8) (v := 0) dX1_undo_7 rfl rfl ?_
    exact z_zret dX1_undo_8 rfl (z_nb01 z_b0) hf

theorem u_X1_unseen {l : Launch} {G : z_G} {a0 : Nat} {x1 : Int32} {h : z_H} {Q : z_Q} (hst : l.stackTraces = false)  (hf : z_Ct l G m_X1_isSide [.int x1] h (z_Qi (fun x_1 h_2 => (x_1 = 0 → Q (some (.int (-1))) h_2) ∧ (¬ x_1 = 0 → z_L0 h_2 a0 ∧ z_Ct l G m_X1_unseenOf [.ref a0, .int x1] h_2 (z_Qi (fun x_4 h_5 => Q (some (.int x_4)) h_5)))))) : z_Ct l G m_X1_unseen [.ref a0, .int x1] h Q := by
  refine z_Ct.of (ls := [some (.ref a0), some (.int x1)]) hst rfl (by show plainName yX1_unseen.cls = true; decide +kernel) (z_le rfl) rfl ?_
  show z_V l G m_X1_unseen (z_Fm G m_X1_unseen Q) 0 0 h 0 [some (.ref a0), some (.int x1)] []
  refine z_iload_n (q := 1) (i := 1) (x := x1) dX1_unseen_0 rfl rfl rfl ?_
  refine z_cSi m_X1_isSide [.int x1] (q := 4) (rc2 := 0) (rs2 := 0) (st := []) dX1_unseen_1 rfl q1274 oS_X1_isSide rfl rfl ⟨z_le rfl, z_le rfl⟩ (z_le rfl) rfl  rfl hf (fun x_1 h_2 hf => ?_)
  refine z_if_eq (q := 7) (tgt := 15) dX1_unseen_4 rfl rfl (fun hc => ?_) (fun hc => ?_)
  · have hf := hf.1 hc
    refine z_iconst (q := 16) (v := (-1)) dX1_unseen_15 rfl rfl ?_
    exact z_iret dX1_unseen_16 rfl hf
  · have hf := hf.2 hc
    refine z_aload_n (q := 8) (i := 0) (x := a0) dX1_unseen_7 rfl rfl rfl ?_
    refine z_iload_n (q := 9) (i := 1) (x := x1) dX1_unseen_8 rfl rfl rfl ?_
    obtain ⟨g_3, hf⟩ := hf
    refine z_cVi m_X1_unseenOf [.int x1] (a0) (q := 12) (rc2 := 0) (rs2 := 0) (st := []) dX1_unseen_9 rfl q1515 oV_X1_unseenOf rfl rfl ⟨z_le rfl, z_le rfl⟩ (z_le rfl) (z_rcv_of 0 rfl (z_L0_T g_3) rfl) rfl  rfl hf (fun x_4 h_5 hf => ?_)
    refine z_goto (q := 16) dX1_unseen_12 rfl ?_
    exact z_iret dX1_unseen_16 rfl hf

theorem u_X1_unseenOf {l : Launch} {G : z_G} {a0 : Nat} {x1 : Int32} {h : z_H} {Q : z_Q} (hst : l.stackTraces = false)  (hf : z_V l G m_X1_unseenOf (z_Fm G m_X1_unseenOf Q) 0 0 h 4 [some (.ref a0), some (.int x1), some (.int 0), some (.int 0)] []) : z_Ct l G m_X1_unseenOf [.ref a0, .int x1] h Q := by
  refine z_Ct.of (ls := [some (.ref a0), some (.int x1), none, none]) hst rfl (by show plainName yX1_unseenOf.cls = true; decide +kernel) (z_le rfl) rfl ?_
  show z_V l G m_X1_unseenOf (z_Fm G m_X1_unseenOf Q) 0 0 h 0 [some (.ref a0), some (.int x1), none, none] []
  refine z_iconst (q := 1) (v := 0) dX1_unseenOf_0 rfl rfl ?_
  refine z_istore_n (q := 2) (i := 2) (ls2 := [some (.ref a0), some (.int x1), some (.int 0), none]) (x := 0) dX1_unseenOf_1 rfl (z_lt rfl) rfl rfl ?_
  refine z_iconst (q := 3) (v := 0) dX1_unseenOf_2 rfl rfl ?_
  refine z_istore_n (q := 4) (i := 3) (ls2 := [some (.ref a0), some (.int x1), some (.int 0), some (.int 0)]) (x := 0) dX1_unseenOf_3 rfl (z_lt rfl) rfl rfl ?_
  exact hf

theorem b_X1_unseenOf_4 {l : Launch} {G : z_G} {a0 : Nat} {x1 : Int32} {x2 : Int32} {x3 : Int32} {h : z_H} {Q : z_Q}  (hf : z_L0 h a0 ∧ z_Ct l G m_X11_cards [.ref (a0 + 23), .int x1] h (z_Qi (fun x_2 h_3 => (x_2 ≤ x3 → Q (some (.int x2)) h_3) ∧ (¬ x_2 ≤ x3 → (x1 = 0 → z_L0 h_3 a0 ∧ vp_in x3 48 ∧ ((h_3.I (a0 + 28) (Int32.toNatClampNeg x3)) = 0 → z_V l G m_X1_unseenOf (z_Fm G m_X1_unseenOf Q) 0 0 h_3 4 [some (.ref a0), some (.int x1), some (.int x2), some (.int (x3 + 1))] []) ∧ (¬ (h_3.I (a0 + 28) (Int32.toNatClampNeg x3)) = 0 → z_V l G m_X1_unseenOf (z_Fm G m_X1_unseenOf Q) 0 0 h_3 4 [some (.ref a0), some (.int x1), some (.int (x2 + 1)), some (.int (x3 + 1))] [])) ∧ (¬ x1 = 0 → z_L0 h_3 a0 ∧ vp_in x3 48 ∧ ((h_3.I (a0 + 29) (Int32.toNatClampNeg x3)) = 0 → z_V l G m_X1_unseenOf (z_Fm G m_X1_unseenOf Q) 0 0 h_3 4 [some (.ref a0), some (.int x1), some (.int x2), some (.int (x3 + 1))] []) ∧ (¬ (h_3.I (a0 + 29) (Int32.toNatClampNeg x3)) = 0 → z_V l G m_X1_unseenOf (z_Fm G m_X1_unseenOf Q) 0 0 h_3 4 [some (.ref a0), some (.int x1), some (.int (x2 + 1)), some (.int (x3 + 1))] [])))))) : z_V l G m_X1_unseenOf (z_Fm G m_X1_unseenOf Q) 0 0 h 4 [some (.ref a0), some (.int x1), some (.int x2), some (.int x3)] [] := by
  refine z_iload_n (q := 5) (i := 3) (x := x3) dX1_unseenOf_4 rfl rfl rfl ?_
  refine z_aload_n (q := 6) (i := 0) (x := a0) dX1_unseenOf_5 rfl rfl rfl ?_
  obtain ⟨g_1, hf⟩ := hf
  refine z_get 0 6 (q := 9) (v := .ref (a0 + 23)) rfl (z_lt rfl) (z_L0_T g_1) q512 dX1_unseenOf_6 rfl (z_fvR (fun _ _ _ => rfl) (z_L0_P6 g_1)) ?_
  refine z_iload_n (q := 10) (i := 1) (x := x1) dX1_unseenOf_9 rfl rfl rfl ?_
  refine z_cVi m_X11_cards [.int x1] ((a0 + 23)) (q := 13) (rc2 := 0) (rs2 := 0) (st := [.int x3]) dX1_unseenOf_10 rfl q1262 oV_X11_cards rfl rfl ⟨z_le rfl, z_le rfl⟩ (z_le rfl) (z_rcv_of 9 rfl (z_L9_T (z_L0_N6 g_1)) rfl) rfl  rfl hf (fun x_2 h_3 hf => ?_)
  refine z_icmp_ge (q := 16) (tgt := 56) dX1_unseenOf_13 rfl rfl (fun hc => ?_) (fun hc => ?_)
  · have hf := hf.1 hc
    refine z_iload_n (q := 57) (i := 2) (x := x2) dX1_unseenOf_56 rfl rfl rfl ?_
    exact z_iret dX1_unseenOf_57 rfl hf
  · have hf := hf.2 hc
    refine z_iload_n (q := 17) (i := 1) (x := x1) dX1_unseenOf_16 rfl rfl rfl ?_
    refine z_if_ne (q := 20) (tgt := 35) dX1_unseenOf_17 rfl rfl (fun hc => ?_) (fun hc => ?_)
    · have hf := hf.2 hc
      refine z_aload_n (q := 36) (i := 0) (x := a0) dX1_unseenOf_35 rfl rfl rfl ?_
      obtain ⟨g_6, hf⟩ := hf
      refine z_get 0 6 (q := 39) (v := .ref (a0 + 23)) rfl (z_lt rfl) (z_L0_T g_6) q512 dX1_unseenOf_36 rfl (z_fvR (fun _ _ _ => rfl) (z_L0_P6 g_6)) ?_
      refine z_getN 9 5 (q := 42) (v := .ref (a0 + 29)) rfl (z_lt rfl) (z_L9_T (z_L0_N6 g_6)) (z_nwm q384 rfl) dX1_unseenOf_39 rfl (z_fvR (fun _ _ _ => rfl) (z_L9_P5 (z_L0_N6 g_6))) ?_
      refine z_iload_n (q := 43) (i := 3) (x := x3) dX1_unseenOf_42 rfl rfl rfl ?_
      obtain ⟨g_7, hf⟩ := hf
      refine z_zald (q := 44) (n := 48) (z_L9_A5 (z_L0_N6 g_6)) g_7 dX1_unseenOf_43 rfl ?_
      refine z_if_eq (q := 47) (tgt := 50) dX1_unseenOf_44 rfl rfl (fun hc => ?_) (fun hc => ?_)
      · have hf := hf.1 hc
        refine z_iinc (q := 53) (i := 3) (x := x3) (v := (x3 + 1)) (ls2 := [some (.ref a0), some (.int x1), some (.int x2), some (.int (x3 + 1))]) dX1_unseenOf_50 rfl rfl (z_lt rfl) rfl rfl ?_
        refine z_goto (q := 4) dX1_unseenOf_53 rfl ?_
        exact hf
      · have hf := hf.2 hc
        refine z_iinc (q := 50) (i := 2) (x := x2) (v := (x2 + 1)) (ls2 := [some (.ref a0), some (.int x1), some (.int (x2 + 1)), some (.int x3)]) dX1_unseenOf_47 rfl rfl (z_lt rfl) rfl rfl ?_
        refine z_iinc (q := 53) (i := 3) (x := x3) (v := (x3 + 1)) (ls2 := [some (.ref a0), some (.int x1), some (.int (x2 + 1)), some (.int (x3 + 1))]) dX1_unseenOf_50 rfl rfl (z_lt rfl) rfl rfl ?_
        refine z_goto (q := 4) dX1_unseenOf_53 rfl ?_
        exact hf
    · have hf := hf.1 hc
      refine z_aload_n (q := 21) (i := 0) (x := a0) dX1_unseenOf_20 rfl rfl rfl ?_
      obtain ⟨g_8, hf⟩ := hf
      refine z_get 0 6 (q := 24) (v := .ref (a0 + 23)) rfl (z_lt rfl) (z_L0_T g_8) q512 dX1_unseenOf_21 rfl (z_fvR (fun _ _ _ => rfl) (z_L0_P6 g_8)) ?_
      refine z_getN 9 4 (q := 27) (v := .ref (a0 + 28)) rfl (z_lt rfl) (z_L9_T (z_L0_N6 g_8)) (z_nwm q382 rfl) dX1_unseenOf_24 rfl (z_fvR (fun _ _ _ => rfl) (z_L9_P4 (z_L0_N6 g_8))) ?_
      refine z_iload_n (q := 28) (i := 3) (x := x3) dX1_unseenOf_27 rfl rfl rfl ?_
      obtain ⟨g_9, hf⟩ := hf
      refine z_zald (q := 29) (n := 48) (z_L9_A4 (z_L0_N6 g_8)) g_9 dX1_unseenOf_28 rfl ?_
      refine z_if_eq (q := 32) (tgt := 50) dX1_unseenOf_29 rfl rfl (fun hc => ?_) (fun hc => ?_)
      · have hf := hf.1 hc
        refine z_iinc (q := 53) (i := 3) (x := x3) (v := (x3 + 1)) (ls2 := [some (.ref a0), some (.int x1), some (.int x2), some (.int (x3 + 1))]) dX1_unseenOf_50 rfl rfl (z_lt rfl) rfl rfl ?_
        refine z_goto (q := 4) dX1_unseenOf_53 rfl ?_
        exact hf
      · have hf := hf.2 hc
        refine z_goto (q := 47) dX1_unseenOf_32 rfl ?_
        refine z_iinc (q := 50) (i := 2) (x := x2) (v := (x2 + 1)) (ls2 := [some (.ref a0), some (.int x1), some (.int (x2 + 1)), some (.int x3)]) dX1_unseenOf_47 rfl rfl (z_lt rfl) rfl rfl ?_
        refine z_iinc (q := 53) (i := 3) (x := x3) (v := (x3 + 1)) (ls2 := [some (.ref a0), some (.int x1), some (.int (x2 + 1)), some (.int (x3 + 1))]) dX1_unseenOf_50 rfl rfl (z_lt rfl) rfl rfl ?_
        refine z_goto (q := 4) dX1_unseenOf_53 rfl ?_
        exact hf

theorem u_X1_worth {l : Launch} {G : z_G} {a0 : Nat} {x1 : Int32} {x2 : Int32} {h : z_H} {Q : z_Q} (hst : l.stackTraces = false)  (hf : z_L0 h a0 ∧ z_Ct l G m_X1_isKind [.ref a0, .int x1] h (z_Qi (fun x_2 h_3 => (x_2 = 0 → Q (some (.int (-1))) h_3) ∧ (¬ x_2 = 0 → z_Ct l G m_X1_in [.int x2, .int 0, .int 1] h_3 (z_Qi (fun x_4 h_5 => (x_4 = 0 → Q (some (.int (-1))) h_5) ∧ (¬ x_4 = 0 → z_L0 h_5 a0 ∧ z_Ct l G m_X1_firstRow [.ref a0] h_5 (z_Qi (fun x_7 h_8 => (x_7 = 0 → Q (some (.int (-1))) h_8) ∧ (¬ x_7 = 0 → z_V l G m_X1_worth (z_Fm G m_X1_worth Q) 0 0 h_8 31 [some (.ref a0), some (.int x1), some (.int x2), some (.int 0), some (.int 0), none, none] [])))))))))) : z_Ct l G m_X1_worth [.ref a0, .int x1, .int x2] h Q := by
  refine z_Ct.of (ls := [some (.ref a0), some (.int x1), some (.int x2), none, none, none, none]) hst rfl (by show plainName yX1_worth.cls = true; decide +kernel) (z_le rfl) rfl ?_
  show z_V l G m_X1_worth (z_Fm G m_X1_worth Q) 1 8 h 0 [some (.ref a0), some (.int x1), some (.int x2), none, none, none, none] []
  refine z_aload_n (q := 1) (i := 0) (x := a0) dX1_worth_0 rfl rfl rfl ?_
  refine z_iload_n (q := 2) (i := 1) (x := x1) dX1_worth_1 rfl rfl rfl ?_
  obtain ⟨g_1, hf⟩ := hf
  refine z_cVi m_X1_isKind [.int x1] (a0) (q := 5) (rc2 := 1) (rs2 := 8) (st := []) dX1_worth_2 rfl q1250 oV_X1_isKind rfl rfl ⟨z_le rfl, z_le rfl⟩ (z_le rfl) (z_rcv_of 0 rfl (z_L0_T g_1) rfl) rfl  rfl hf (fun x_2 h_3 hf => ?_)
  refine z_if_eq (q := 8) (tgt := 24) dX1_worth_5 rfl rfl (fun hc => ?_) (fun hc => ?_)
  · have hf := hf.1 hc
    refine z_iconst (q := 25) (v := (-1)) dX1_worth_24 rfl rfl ?_
    exact z_iret dX1_worth_25 rfl hf
  · have hf := hf.2 hc
    refine z_iload_n (q := 9) (i := 2) (x := x2) dX1_worth_8 rfl rfl rfl ?_
    refine z_iconst (q := 10) (v := 0) dX1_worth_9 rfl rfl ?_
    refine z_iconst (q := 11) (v := 1) dX1_worth_10 rfl rfl ?_
    refine z_cSi m_X1_in [.int x2, .int 0, .int 1] (q := 14) (rc2 := 1) (rs2 := 8) (st := []) dX1_worth_11 rfl q1259 oS_X1_in rfl rfl ⟨z_le rfl, z_le rfl⟩ (z_le rfl) rfl  rfl hf (fun x_4 h_5 hf => ?_)
    refine z_if_eq (q := 17) (tgt := 24) dX1_worth_14 rfl rfl (fun hc => ?_) (fun hc => ?_)
    · have hf := hf.1 hc
      refine z_iconst (q := 25) (v := (-1)) dX1_worth_24 rfl rfl ?_
      exact z_iret dX1_worth_25 rfl hf
    · have hf := hf.2 hc
      refine z_aload_n (q := 18) (i := 0) (x := a0) dX1_worth_17 rfl rfl rfl ?_
      obtain ⟨g_6, hf⟩ := hf
      refine z_cVi m_X1_firstRow [] (a0) (q := 21) (rc2 := 0) (rs2 := 0) (st := []) dX1_worth_18 rfl q1449 oV_X1_firstRow rfl rfl ⟨z_le rfl, z_le rfl⟩ (z_le rfl) (z_rcv_of 0 rfl (z_L0_T g_6) rfl) rfl  rfl hf (fun x_7 h_8 hf => ?_)
      refine z_if_ne (q := 24) (tgt := 26) dX1_worth_21 rfl rfl (fun hc => ?_) (fun hc => ?_)
      · have hf := hf.2 hc
        refine z_iconst (q := 27) (v := 0) dX1_worth_26 rfl rfl ?_
        refine z_istore_n (q := 28) (i := 3) (ls2 := [some (.ref a0), some (.int x1), some (.int x2), some (.int 0), none, none, none]) (x := 0) dX1_worth_27 rfl (z_lt rfl) rfl rfl ?_
        refine z_iconst (q := 29) (v := 0) dX1_worth_28 rfl rfl ?_
        refine z_istore (q := 31) (i := 4) (ls2 := [some (.ref a0), some (.int x1), some (.int x2), some (.int 0), some (.int 0), none, none]) (x := 0) dX1_worth_29 (z_lt rfl) rfl rfl ?_
        exact hf
      · have hf := hf.1 hc
        refine z_iconst (q := 25) (v := (-1)) dX1_worth_24 rfl rfl ?_
        exact z_iret dX1_worth_25 rfl hf

theorem b_X1_worth_31 {l : Launch} {G : z_G} {rc rs : Nat} {a0 : Nat} {x1 : Int32} {x2 : Int32} {x3 : Int32} {x4 : Int32} {h : z_H} {Q : z_Q}  (hf : z_V l G m_X1_worth (z_Fm G m_X1_worth Q) rc rs h 37 [some (.ref a0), some (.int x1), some (.int x2), some (.int x3), some (.int x4), some (.int 0), some (.int 0)] []) : z_V l G m_X1_worth (z_Fm G m_X1_worth Q) rc rs h 31 [some (.ref a0), some (.int x1), some (.int x2), some (.int x3), some (.int x4), none, none] [] := by
  refine z_iconst (q := 32) (v := 0) dX1_worth_31 rfl rfl ?_
  refine z_istore (q := 34) (i := 5) (ls2 := [some (.ref a0), some (.int x1), some (.int x2), some (.int x3), some (.int x4), some (.int 0), none]) (x := 0) dX1_worth_32 (z_lt rfl) rfl rfl ?_
  refine z_iconst (q := 35) (v := 0) dX1_worth_34 rfl rfl ?_
  refine z_istore (q := 37) (i := 6) (ls2 := [some (.ref a0), some (.int x1), some (.int x2), some (.int x3), some (.int x4), some (.int 0), some (.int 0)]) (x := 0) dX1_worth_35 (z_lt rfl) rfl rfl ?_
  exact hf

theorem b_X1_worth_37 {l : Launch} {G : z_G} {rc rs : Nat} {a0 : Nat} {x1 : Int32} {x2 : Int32} {x3 : Int32} {x4 : Int32} {x5 : Int32} {x6 : Int32} {h : z_H} {Q : z_Q}  (hf : z_L0 h a0 ∧ ((h.I a0 16) ≤ x6 → (0 < x5 → ∃ b_2, (h.P a0 4) = some b_2 ∧ z_L8 h b_2 ∧ z_Ct l G m_X10_first [.ref b_2] h (z_Qi (fun x_5 h_6 => z_L0 h_6 a0 ∧ ∃ b_8, (h_6.P a0 4) = some b_8 ∧ z_L8 h_6 b_8 ∧ z_Ct l G m_X1_plays [.ref a0, .int x_5, .ref (b_8 + 3)] h_6 (z_Qv (fun h_11 => z_L0 h_11 a0 ∧ ((h_11.I (a0 + 9) 7) = 0 → z_Ct l G m_X1_nextRow [.ref a0] h_11 (z_Qi (fun x_15 h_16 => (x_15 = 0 → Q (some (.int (if x2 = 0 then (x3 + 1) else (x4 + 1)))) h_16) ∧ (¬ x_15 = 0 → z_V l G m_X1_worth (z_Fm G m_X1_worth Q) rc rs h_16 31 [some (.ref a0), some (.int x1), some (.int x2), some (.int (x3 + 1)), some (.int (x4 + 1)), none, none] [])))) ∧ (¬ (h_11.I (a0 + 9) 7) = 0 → z_Ct l G m_X1_nextRow [.ref a0] h_11 (z_Qi (fun x_13 h_14 => (x_13 = 0 → Q (some (.int (if x2 = 0 then x3 else (x4 + 1)))) h_14) ∧ (¬ x_13 = 0 → z_V l G m_X1_worth (z_Fm G m_X1_worth Q) rc rs h_14 31 [some (.ref a0), some (.int x1), some (.int x2), some (.int x3), some (.int (x4 + 1)), none, none] []))))))))) ∧ (¬ 0 < x5 → z_Ct l G m_X1_nextRow [.ref a0] h (z_Qi (fun x_17 h_18 => (x_17 = 0 → Q (some (.int (if x2 = 0 then x3 else x4))) h_18) ∧ (¬ x_17 = 0 → z_V l G m_X1_worth (z_Fm G m_X1_worth Q) rc rs h_18 31 [some (.ref a0), some (.int x1), some (.int x2), some (.int x3), some (.int x4), none, none] []))))) ∧ (¬ (h.I a0 16) ≤ x6 → vp_in x6 24 ∧ ((h.I (a0 + 55) (Int32.toNatClampNeg x6)) = x1 → ∀ v_20 : Int32, v_20 = (x5 + (if ((h.I a0 16) - ((h.I a0 16) / 2)) ≤ x6 then (-1) else 1)) → z_V l G m_X1_worth (z_Fm G m_X1_worth Q) rc rs h 37 [some (.ref a0), some (.int x1), some (.int x2), some (.int x3), some (.int x4), some (.int v_20), some (.int (x6 + 1))] []) ∧ (¬ (h.I (a0 + 55) (Int32.toNatClampNeg x6)) = x1 → z_V l G m_X1_worth (z_Fm G m_X1_worth Q) rc rs h 37 [some (.ref a0), some (.int x1), some (.int x2), some (.int x3), some (.int x4), some (.int x5), some (.int (x6 + 1))] []))) : z_V l G m_X1_worth (z_Fm G m_X1_worth Q) rc rs h 37 [some (.ref a0), some (.int x1), some (.int x2), some (.int x3), some (.int x4), some (.int x5), some (.int x6)] [] := by
  refine z_iload (q := 39) (i := 6) (x := x6) dX1_worth_37 rfl rfl ?_
  refine z_aload_n (q := 40) (i := 0) (x := a0) dX1_worth_39 rfl rfl rfl ?_
  obtain ⟨g_1, hf⟩ := hf
  refine z_get 0 16 (q := 43) (v := .int (h.I a0 16)) rfl (z_lt rfl) (z_L0_T g_1) q522 dX1_worth_40 rfl rfl ?_
  refine z_icmp_ge (q := 46) (tgt := 89) dX1_worth_43 rfl rfl (fun hc => ?_) (fun hc => ?_)
  · have hf := hf.1 hc
    refine z_iload (q := 91) (i := 5) (x := x5) dX1_worth_89 rfl rfl ?_
    refine z_if_gt (q := 94) (tgt := 97) dX1_worth_91 rfl rfl (fun hc => ?_) (fun hc => ?_)
    · have hf := hf.1 hc
      refine z_iinc (q := 100) (i := 4) (x := x4) (v := (x4 + 1)) (ls2 := [some (.ref a0), some (.int x1), some (.int x2), some (.int x3), some (.int (x4 + 1)), some (.int x5), some (.int x6)]) dX1_worth_97 rfl rfl (z_lt rfl) rfl rfl ?_
      refine z_aload_n (q := 101) (i := 0) (x := a0) dX1_worth_100 rfl rfl rfl ?_
      refine z_aload_n (q := 102) (i := 0) (x := a0) dX1_worth_101 rfl rfl rfl ?_
      obtain ⟨b_2, g_3, hf⟩ := hf
      refine z_get 0 4 (q := 105) (v := .ref b_2) rfl (z_lt rfl) (z_L0_T g_1) q510 dX1_worth_102 rfl (z_fvR (fun _ _ _ => rfl) g_3) ?_
      obtain ⟨g_4, hf⟩ := hf
      refine z_cVi m_X10_first [] (b_2) (q := 108) (rc2 := rc) (rs2 := rs) (st := [.ref a0]) dX1_worth_105 rfl q1180 oV_X10_first rfl rfl ⟨z_le rfl, z_le rfl⟩ (z_le rfl) (z_rcv_of 8 rfl (z_L8_T g_4) rfl) rfl  rfl hf (fun x_5 h_6 hf => ?_)
      refine z_aload_n (q := 109) (i := 0) (x := a0) dX1_worth_108 rfl rfl rfl ?_
      obtain ⟨g_7, hf⟩ := hf
      obtain ⟨b_8, g_9, hf⟩ := hf
      refine z_get 0 4 (q := 112) (v := .ref b_8) rfl (z_lt rfl) (z_L0_T g_7) q510 dX1_worth_109 rfl (z_fvR (fun _ _ _ => rfl) g_9) ?_
      obtain ⟨g_10, hf⟩ := hf
      refine z_getN 8 1 (q := 115) (v := .ref (b_8 + 3)) rfl (z_lt rfl) (z_L8_T g_10) (z_nwm q334 rfl) dX1_worth_112 rfl (z_fvR (fun _ _ _ => rfl) (z_L8_P1 g_10)) ?_
      refine z_cVv m_X1_plays [.int x_5, .ref (b_8 + 3)] (a0) (q := 118) (rc2 := rc) (rs2 := rs) (st := []) dX1_worth_115 rfl q1457 oV_X1_plays rfl rfl ⟨z_le rfl, z_le rfl⟩ (z_le rfl) (z_rcv_of 0 rfl (z_L0_T g_7) rfl) rfl  rfl hf (fun h_11 hf => ?_)
      refine z_aload_n (q := 119) (i := 0) (x := a0) dX1_worth_118 rfl rfl rfl ?_
      obtain ⟨g_12, hf⟩ := hf
      refine z_get 0 3 (q := 122) (v := .ref (a0 + 9)) rfl (z_lt rfl) (z_L0_T g_12) q508 dX1_worth_119 rfl (z_fvR (fun _ _ _ => rfl) (z_L0_P3 g_12)) ?_
      refine z_getN 7 7 (q := 125) (v := .int (h_11.I (a0 + 9) 7)) rfl (z_lt rfl) (z_L7_T (z_L0_N3 g_12)) (z_nwm q261 rfl) dX1_worth_122 rfl rfl ?_
      refine z_if_ne (q := 128) (tgt := 131) dX1_worth_125 rfl rfl (fun hc => ?_) (fun hc => ?_)
      · have hf := hf.2 hc
        refine z_aload_n (q := 132) (i := 0) (x := a0) dX1_worth_131 rfl rfl rfl ?_
        refine z_cVi m_X1_nextRow [] (a0) (q := 135) (rc2 := rc) (rs2 := rs) (st := []) dX1_worth_132 rfl q1465 oV_X1_nextRow rfl rfl ⟨z_le rfl, z_le rfl⟩ (z_le rfl) (z_rcv_of 0 rfl (z_L0_T g_12) rfl) rfl  rfl hf (fun x_13 h_14 hf => ?_)
        refine z_if_ne (q := 138) (tgt := 31) dX1_worth_135 rfl rfl (fun hc => ?_) (fun hc => ?_)
        · have hf := hf.2 hc
          refine z_prune [true, true, true, true, true, false, false] (ls2 := [some (.ref a0), some (.int x1), some (.int x2), some (.int x3), some (.int (x4 + 1)), none, none]) rfl ?_
          exact hf
        · have hf := hf.1 hc
          refine z_iload_n (q := 139) (i := 2) (x := x2) dX1_worth_138 rfl rfl rfl ?_
          have hk : z_V l G m_X1_worth (z_Fm G m_X1_worth Q) rc rs h_14 148 [some (.ref a0), some (.int x1), some (.int x2), some (.int x3), some (.int (x4 + 1)), some (.int x5), some (.int x6)] [.int (if x2 = 0 then x3 else (x4 + 1))] := by
            exact z_iret dX1_worth_148 rfl hf
          refine z_if_ne (q := 142) (tgt := 146) dX1_worth_139 rfl rfl (fun hc => ?_) (fun hc => ?_)
          · have hk := (z_ite hk).2 hc
            refine z_iload (q := 148) (i := 4) (x := (x4 + 1)) dX1_worth_146 rfl rfl ?_
            exact hk
          · have hk := (z_ite hk).1 hc
            refine z_iload_n (q := 143) (i := 3) (x := x3) dX1_worth_142 rfl rfl rfl ?_
            refine z_goto (q := 148) dX1_worth_143 rfl ?_
            exact hk
      · have hf := hf.1 hc
        refine z_iinc (q := 131) (i := 3) (x := x3) (v := (x3 + 1)) (ls2 := [some (.ref a0), some (.int x1), some (.int x2), some (.int (x3 + 1)), some (.int (x4 + 1)), some (.int x5), some (.int x6)]) dX1_worth_128 rfl rfl (z_lt rfl) rfl rfl ?_
        refine z_aload_n (q := 132) (i := 0) (x := a0) dX1_worth_131 rfl rfl rfl ?_
        refine z_cVi m_X1_nextRow [] (a0) (q := 135) (rc2 := rc) (rs2 := rs) (st := []) dX1_worth_132 rfl q1465 oV_X1_nextRow rfl rfl ⟨z_le rfl, z_le rfl⟩ (z_le rfl) (z_rcv_of 0 rfl (z_L0_T g_12) rfl) rfl  rfl hf (fun x_15 h_16 hf => ?_)
        refine z_if_ne (q := 138) (tgt := 31) dX1_worth_135 rfl rfl (fun hc => ?_) (fun hc => ?_)
        · have hf := hf.2 hc
          refine z_prune [true, true, true, true, true, false, false] (ls2 := [some (.ref a0), some (.int x1), some (.int x2), some (.int (x3 + 1)), some (.int (x4 + 1)), none, none]) rfl ?_
          exact hf
        · have hf := hf.1 hc
          refine z_iload_n (q := 139) (i := 2) (x := x2) dX1_worth_138 rfl rfl rfl ?_
          have hk : z_V l G m_X1_worth (z_Fm G m_X1_worth Q) rc rs h_16 148 [some (.ref a0), some (.int x1), some (.int x2), some (.int (x3 + 1)), some (.int (x4 + 1)), some (.int x5), some (.int x6)] [.int (if x2 = 0 then (x3 + 1) else (x4 + 1))] := by
            exact z_iret dX1_worth_148 rfl hf
          refine z_if_ne (q := 142) (tgt := 146) dX1_worth_139 rfl rfl (fun hc => ?_) (fun hc => ?_)
          · have hk := (z_ite hk).2 hc
            refine z_iload (q := 148) (i := 4) (x := (x4 + 1)) dX1_worth_146 rfl rfl ?_
            exact hk
          · have hk := (z_ite hk).1 hc
            refine z_iload_n (q := 143) (i := 3) (x := (x3 + 1)) dX1_worth_142 rfl rfl rfl ?_
            refine z_goto (q := 148) dX1_worth_143 rfl ?_
            exact hk
    · have hf := hf.2 hc
      refine z_goto (q := 131) dX1_worth_94 rfl ?_
      refine z_aload_n (q := 132) (i := 0) (x := a0) dX1_worth_131 rfl rfl rfl ?_
      refine z_cVi m_X1_nextRow [] (a0) (q := 135) (rc2 := rc) (rs2 := rs) (st := []) dX1_worth_132 rfl q1465 oV_X1_nextRow rfl rfl ⟨z_le rfl, z_le rfl⟩ (z_le rfl) (z_rcv_of 0 rfl (z_L0_T g_1) rfl) rfl  rfl hf (fun x_17 h_18 hf => ?_)
      refine z_if_ne (q := 138) (tgt := 31) dX1_worth_135 rfl rfl (fun hc => ?_) (fun hc => ?_)
      · have hf := hf.2 hc
        refine z_prune [true, true, true, true, true, false, false] (ls2 := [some (.ref a0), some (.int x1), some (.int x2), some (.int x3), some (.int x4), none, none]) rfl ?_
        exact hf
      · have hf := hf.1 hc
        refine z_iload_n (q := 139) (i := 2) (x := x2) dX1_worth_138 rfl rfl rfl ?_
        have hk : z_V l G m_X1_worth (z_Fm G m_X1_worth Q) rc rs h_18 148 [some (.ref a0), some (.int x1), some (.int x2), some (.int x3), some (.int x4), some (.int x5), some (.int x6)] [.int (if x2 = 0 then x3 else x4)] := by
          exact z_iret dX1_worth_148 rfl hf
        refine z_if_ne (q := 142) (tgt := 146) dX1_worth_139 rfl rfl (fun hc => ?_) (fun hc => ?_)
        · have hk := (z_ite hk).2 hc
          refine z_iload (q := 148) (i := 4) (x := x4) dX1_worth_146 rfl rfl ?_
          exact hk
        · have hk := (z_ite hk).1 hc
          refine z_iload_n (q := 143) (i := 3) (x := x3) dX1_worth_142 rfl rfl rfl ?_
          refine z_goto (q := 148) dX1_worth_143 rfl ?_
          exact hk
  · have hf := hf.2 hc
    refine z_aload_n (q := 47) (i := 0) (x := a0) dX1_worth_46 rfl rfl rfl ?_
    refine z_get 0 15 (q := 50) (v := .ref (a0 + 55)) rfl (z_lt rfl) (z_L0_T g_1) q521 dX1_worth_47 rfl (z_fvR (fun _ _ _ => rfl) (z_L0_P15 g_1)) ?_
    refine z_iload (q := 52) (i := 6) (x := x6) dX1_worth_50 rfl rfl ?_
    obtain ⟨g_19, hf⟩ := hf
    refine z_iald (q := 53) (n := 24) (z_L0_A15 g_1) g_19 dX1_worth_52 rfl ?_
    refine z_iload_n (q := 54) (i := 1) (x := x1) dX1_worth_53 rfl rfl rfl ?_
    refine z_icmp_ne (q := 57) (tgt := 83) dX1_worth_54 rfl rfl (fun hc => ?_) (fun hc => ?_)
    · have hf := hf.2 hc
      refine z_iinc (q := 86) (i := 6) (x := x6) (v := (x6 + 1)) (ls2 := [some (.ref a0), some (.int x1), some (.int x2), some (.int x3), some (.int x4), some (.int x5), some (.int (x6 + 1))]) dX1_worth_83 rfl rfl (z_lt rfl) rfl rfl ?_
      refine z_goto (q := 37) dX1_worth_86 rfl ?_
      exact hf
    · have hf := hf.1 hc
      refine z_iload (q := 59) (i := 5) (x := x5) dX1_worth_57 rfl rfl ?_
      refine z_iload (q := 61) (i := 6) (x := x6) dX1_worth_59 rfl rfl ?_
      refine z_aload_n (q := 62) (i := 0) (x := a0) dX1_worth_61 rfl rfl rfl ?_
      refine z_get 0 16 (q := 65) (v := .int (h.I a0 16)) rfl (z_lt rfl) (z_L0_T g_1) q522 dX1_worth_62 rfl rfl ?_
      refine z_aload_n (q := 66) (i := 0) (x := a0) dX1_worth_65 rfl rfl rfl ?_
      refine z_get 0 16 (q := 69) (v := .int (h.I a0 16)) rfl (z_lt rfl) (z_L0_T g_1) q522 dX1_worth_66 rfl rfl ?_
      refine z_iconst (q := 70) (v := 2) dX1_worth_69 rfl rfl ?_
      refine z_idiv (q := 71) dX1_worth_70 (by decide) rfl ?_
      refine z_isub (q := 72) dX1_worth_71 rfl ?_
      have hk : z_V l G m_X1_worth (z_Fm G m_X1_worth Q) rc rs h 80 [some (.ref a0), some (.int x1), some (.int x2), some (.int x3), some (.int x4), some (.int x5), some (.int x6)] [.int (if ((h.I a0 16) - ((h.I a0 16) / 2)) ≤ x6 then (-1) else 1), .int x5] := by
        refine z_iadd (q := 81) dX1_worth_80 rfl ?_
        refine z_nmI (fun v_20 hv_21 => ?_)
        have hf := hf v_20 hv_21
        refine z_istore (q := 83) (i := 5) (ls2 := [some (.ref a0), some (.int x1), some (.int x2), some (.int x3), some (.int x4), some (.int v_20), some (.int x6)]) (x := v_20) dX1_worth_81 (z_lt rfl) rfl rfl ?_
        refine z_iinc (q := 86) (i := 6) (x := x6) (v := (x6 + 1)) (ls2 := [some (.ref a0), some (.int x1), some (.int x2), some (.int x3), some (.int x4), some (.int v_20), some (.int (x6 + 1))]) dX1_worth_83 rfl rfl (z_lt rfl) rfl rfl ?_
        refine z_goto (q := 37) dX1_worth_86 rfl ?_
        exact hf
      refine z_icmp_ge (q := 75) (tgt := 79) dX1_worth_72 rfl rfl (fun hc => ?_) (fun hc => ?_)
      · have hk := (z_ite hk).1 hc
        refine z_iconst (q := 80) (v := (-1)) dX1_worth_79 rfl rfl ?_
        exact hk
      · have hk := (z_ite hk).2 hc
        refine z_iconst (q := 76) (v := 1) dX1_worth_75 rfl rfl ?_
        refine z_goto (q := 80) dX1_worth_76 rfl ?_
        exact hk

