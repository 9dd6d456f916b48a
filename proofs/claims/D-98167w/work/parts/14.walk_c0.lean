set_option maxRecDepth 100000
set_option maxHeartbeats 4000000
theorem u_X13_again {l : Launch} {G : z_G} {a0 : Nat} {h : z_H} {Q : z_Q} (hst : l.stackTraces = false)  (hf : z_L11 h a0 ∧ vp_in 15 16560 ∧ ((h.I (a0 + 16) (Int32.toNatClampNeg 15)) = 0 → Q (some (.int 0)) (h.sI a0 0 0)) ∧ (¬ (h.I (a0 + 16) (Int32.toNatClampNeg 15)) = 0 → z_Ct l G m_X13_begins [.ref a0, .int 0] (h.sI a0 0 0) (z_Qv (fun h_3 => z_L11 h_3 a0 ∧ Q (some (.int 1)) (h_3.sI a0 23 0))))) : z_Ct l G m_X13_again [.ref a0] h Q := by
  refine z_Ct.of (ls := [some (.ref a0)]) hst rfl (by show plainName yX13_again.cls = true; decide +kernel) (z_le rfl) rfl ?_
  show z_V l G m_X13_again (z_Fm G m_X13_again Q) 0 0 h 0 [some (.ref a0)] []
  refine z_aload_n (q := 1) (i := 0) (x := a0) dX13_again_0 rfl rfl rfl ?_
  refine z_iconst (q := 2) (v := 0) dX13_again_1 rfl rfl ?_
  obtain ⟨g_1, hf⟩ := hf
  refine z_putI 11 0 (q := 5) (x := 0) (v := .int 0) rfl (z_lt rfl) (z_L11_T g_1) q1758 rfl dX13_again_2 rfl rfl rfl rfl (fun _ _ _ => rfl) ?_
  refine z_aload_n (q := 6) (i := 0) (x := a0) dX13_again_5 rfl rfl rfl ?_
  refine z_get 11 22 (q := 9) (v := .ref (a0 + 16)) rfl (z_lt rfl) (z_L11_T g_1) q1780 dX13_again_6 rfl (z_fvR (fun _ _ _ => rfl) (z_L11_P22 g_1)) ?_
  refine z_bipush (q := 11) (v := 15) dX13_again_9 (by decide) rfl ?_
  obtain ⟨g_2, hf⟩ := hf
  refine z_iald (q := 12) (n := 16560) (z_L11_A22 g_1) g_2 dX13_again_11 rfl ?_
  refine z_topI (z_rIa (by omega)) ?_
  refine z_if_ne (q := 15) (tgt := 17) dX13_again_12 rfl rfl (fun hc => ?_) (fun hc => ?_)
  · have hf := hf.2 hc
    refine z_aload_n (q := 18) (i := 0) (x := a0) dX13_again_17 rfl rfl rfl ?_
    refine z_iconst (q := 19) (v := 0) dX13_again_18 rfl rfl ?_
    refine z_cVv m_X13_begins [.int 0] (a0) (q := 22) (rc2 := 0) (rs2 := 0) (st := []) dX13_again_19 rfl q1754 oV_X13_begins rfl rfl ⟨z_le rfl, z_le rfl⟩ (z_le rfl) (z_rcv_of 11 rfl (z_L11_T g_1) rfl) rfl  rfl hf (fun h_3 hf => ?_)
    refine z_aload_n (q := 23) (i := 0) (x := a0) dX13_again_22 rfl rfl rfl ?_
    refine z_iconst (q := 24) (v := 0) dX13_again_23 rfl rfl ?_
    obtain ⟨g_4, hf⟩ := hf
    refine z_putI 11 23 (q := 27) (x := 0) (v := .int 0) rfl (z_lt rfl) (z_L11_T g_4) q1781 rfl dX13_again_24 rfl rfl rfl rfl (fun _ _ _ => rfl) ?_
    refine z_iconst (q := 28) (v := 1) dX13_again_27 rfl rfl ?_
    exact z_zret dX13_again_28 rfl (z_nb01 z_b1) hf
  · have hf := hf.1 hc
    refine z_iconst (q := 16) (v := 0) dX13_again_15 rfl rfl ?_
    exact z_zret dX13_again_16 rfl (z_nb01 z_b0) hf

theorem u_X13_all {l : Launch} {G : z_G} {a0 : Nat} {x1 : Int32} {h : z_H} {Q : z_Q} (hst : l.stackTraces = false)  (hf : z_L11 h a0 ∧ z_Ct l G m_X13_within [.int x1, .int 0, .int 6] (h.sI a0 0 0) (z_Qi (fun x_2 h_3 => (x_2 = 0 → Q (some (.int (-1))) h_3) ∧ (¬ x_2 = 0 → z_L11 h_3 a0 ∧ z_Ct l G m_X13_counts [.ref a0] h_3 (z_Qi (fun x_5 h_6 => (x_5 = 0 → Q (some (.int (-1))) h_6) ∧ (¬ x_5 = 0 → (x1 = 0 → z_L11 h_6 a0 ∧ Q (some (.int (h_6.I a0 44))) h_6) ∧ (¬ x1 = 0 → z_V l G m_X13_all (z_Fm G m_X13_all Q) 0 0 h_6 40 [some (.ref a0), some (.int x1), some (.int 0), some (.int (-1)), some (.int 0)] [])))))))) : z_Ct l G m_X13_all [.ref a0, .int x1] h Q := by
  refine z_Ct.of (ls := [some (.ref a0), some (.int x1), none, none, none]) hst rfl (by show plainName yX13_all.cls = true; decide +kernel) (z_le rfl) rfl ?_
  show z_V l G m_X13_all (z_Fm G m_X13_all Q) 0 0 h 0 [some (.ref a0), some (.int x1), none, none, none] []
  refine z_aload_n (q := 1) (i := 0) (x := a0) dX13_all_0 rfl rfl rfl ?_
  refine z_iconst (q := 2) (v := 0) dX13_all_1 rfl rfl ?_
  obtain ⟨g_1, hf⟩ := hf
  refine z_putI 11 0 (q := 5) (x := 0) (v := .int 0) rfl (z_lt rfl) (z_L11_T g_1) q1758 rfl dX13_all_2 rfl rfl rfl rfl (fun _ _ _ => rfl) ?_
  refine z_iload_n (q := 6) (i := 1) (x := x1) dX13_all_5 rfl rfl rfl ?_
  refine z_iconst (q := 7) (v := 0) dX13_all_6 rfl rfl ?_
  refine z_bipush (q := 9) (v := 6) dX13_all_7 (by decide) rfl ?_
  refine z_cSi m_X13_within [.int x1, .int 0, .int 6] (q := 12) (rc2 := 0) (rs2 := 0) (st := []) dX13_all_9 rfl q2074 oS_X13_within rfl rfl ⟨z_le rfl, z_le rfl⟩ (z_le rfl) rfl  rfl hf (fun x_2 h_3 hf => ?_)
  refine z_if_eq (q := 15) (tgt := 22) dX13_all_12 rfl rfl (fun hc => ?_) (fun hc => ?_)
  · have hf := hf.1 hc
    refine z_iconst (q := 23) (v := (-1)) dX13_all_22 rfl rfl ?_
    exact z_iret dX13_all_23 rfl hf
  · have hf := hf.2 hc
    refine z_aload_n (q := 16) (i := 0) (x := a0) dX13_all_15 rfl rfl rfl ?_
    obtain ⟨g_4, hf⟩ := hf
    refine z_cVi m_X13_counts [] (a0) (q := 19) (rc2 := 0) (rs2 := 0) (st := []) dX13_all_16 rfl q2190 oV_X13_counts rfl rfl ⟨z_le rfl, z_le rfl⟩ (z_le rfl) (z_rcv_of 11 rfl (z_L11_T g_4) rfl) rfl  rfl hf (fun x_5 h_6 hf => ?_)
    refine z_if_ne (q := 22) (tgt := 24) dX13_all_19 rfl rfl (fun hc => ?_) (fun hc => ?_)
    · have hf := hf.2 hc
      refine z_iload_n (q := 25) (i := 1) (x := x1) dX13_all_24 rfl rfl rfl ?_
      refine z_if_ne (q := 28) (tgt := 33) dX13_all_25 rfl rfl (fun hc => ?_) (fun hc => ?_)
      · have hf := hf.2 hc
        refine z_iconst (q := 34) (v := 0) dX13_all_33 rfl rfl ?_
        refine z_istore_n (q := 35) (i := 2) (ls2 := [some (.ref a0), some (.int x1), some (.int 0), none, none]) (x := 0) dX13_all_34 rfl (z_lt rfl) rfl rfl ?_
        refine z_iconst (q := 36) (v := (-1)) dX13_all_35 rfl rfl ?_
        refine z_istore_n (q := 37) (i := 3) (ls2 := [some (.ref a0), some (.int x1), some (.int 0), some (.int (-1)), none]) (x := (-1)) dX13_all_36 rfl (z_lt rfl) rfl rfl ?_
        refine z_iconst (q := 38) (v := 0) dX13_all_37 rfl rfl ?_
        refine z_istore (q := 40) (i := 4) (ls2 := [some (.ref a0), some (.int x1), some (.int 0), some (.int (-1)), some (.int 0)]) (x := 0) dX13_all_38 (z_lt rfl) rfl rfl ?_
        exact hf
      · have hf := hf.1 hc
        refine z_aload_n (q := 29) (i := 0) (x := a0) dX13_all_28 rfl rfl rfl ?_
        obtain ⟨g_7, hf⟩ := hf
        refine z_get 11 44 (q := 32) (v := .int (h_6.I a0 44)) rfl (z_lt rfl) (z_L11_T g_7) q1802 dX13_all_29 rfl rfl ?_
        exact z_iret dX13_all_32 rfl hf
    · have hf := hf.1 hc
      refine z_iconst (q := 23) (v := (-1)) dX13_all_22 rfl rfl ?_
      exact z_iret dX13_all_23 rfl hf

theorem b_X13_all_40 {l : Launch} {G : z_G} {a0 : Nat} {x1 : Int32} {x2 : Int32} {x3 : Int32} {x4 : Int32} {h : z_H} {Q : z_Q}  (hf : z_L11 h a0 ∧ ((h.I a0 44) ≤ x4 → ((5 ≤ x1 → (x1 = 6 → True) ∧ (¬ x1 = 6 → (0 ≤ x3 → vp_in x3 20000 ∧ True) ∧ (¬ 0 ≤ x3 → True))) ∧ (¬ 5 ≤ x1 → True)) ∧ Q (some (.int (if 5 ≤ x1 then (if x1 = 6 then x3 else (if 0 ≤ x3 then (h.I (a0 + 28) (Int32.toNatClampNeg x3)) else 0)) else x2))) h) ∧ (¬ (h.I a0 44) ≤ x4 → ((5 ≤ x1 → True) ∧ (¬ 5 ≤ x1 → vp_in x4 20000 ∧ True)) ∧ ∀ v_4 : Int32, v_4 = (x2 + (if 5 ≤ x1 then 0 else (if (h.I (a0 + 27) (Int32.toNatClampNeg x4)) = (x1 - 1) then 1 else 0))) → vp_in x4 20000 ∧ ((2 ≤ (h.I (a0 + 27) (Int32.toNatClampNeg x4)) → True) ∧ (¬ 2 ≤ (h.I (a0 + 27) (Int32.toNatClampNeg x4)) → (x3 < 0 → True) ∧ (¬ x3 < 0 → vp_in x4 20000 ∧ vp_in x3 20000 ∧ True))) ∧ ∀ v_9 : Int32, v_9 = (if 2 ≤ (h.I (a0 + 27) (Int32.toNatClampNeg x4)) then x3 else (if x3 < 0 then x4 else (if (h.I (a0 + 28) (Int32.toNatClampNeg x4)) ≤ (h.I (a0 + 28) (Int32.toNatClampNeg x3)) then x3 else x4))) → z_V l G m_X13_all (z_Fm G m_X13_all Q) 0 0 h 40 [some (.ref a0), some (.int x1), some (.int v_4), some (.int v_9), some (.int (x4 + 1))] [])) : z_V l G m_X13_all (z_Fm G m_X13_all Q) 0 0 h 40 [some (.ref a0), some (.int x1), some (.int x2), some (.int x3), some (.int x4)] [] := by
  refine z_iload (q := 42) (i := 4) (x := x4) dX13_all_40 rfl rfl ?_
  refine z_aload_n (q := 43) (i := 0) (x := a0) dX13_all_42 rfl rfl rfl ?_
  obtain ⟨g_1, hf⟩ := hf
  refine z_get 11 44 (q := 46) (v := .int (h.I a0 44)) rfl (z_lt rfl) (z_L11_T g_1) q1802 dX13_all_43 rfl rfl ?_
  refine z_icmp_ge (q := 49) (tgt := 119) dX13_all_46 rfl rfl (fun hc => ?_) (fun hc => ?_)
  · have hf := hf.1 hc
    refine z_iload_n (q := 120) (i := 1) (x := x1) dX13_all_119 rfl rfl rfl ?_
    refine z_iconst (q := 121) (v := 5) dX13_all_120 rfl rfl ?_
    obtain ⟨hsc, hf⟩ := hf
    have hk : z_V l G m_X13_all (z_Fm G m_X13_all Q) 0 0 h 152 [some (.ref a0), some (.int x1), some (.int x2), some (.int x3), some (.int x4)] [.int (if 5 ≤ x1 then (if x1 = 6 then x3 else (if 0 ≤ x3 then (h.I (a0 + 28) (Int32.toNatClampNeg x3)) else 0)) else x2)] := by
      exact z_iret dX13_all_152 rfl hf
    refine z_icmp_ge (q := 124) (tgt := 128) dX13_all_121 rfl rfl (fun hc => ?_) (fun hc => ?_)
    · have hk := (z_ite hk).1 hc
      have hsc := hsc.1 hc
      refine z_iload_n (q := 129) (i := 1) (x := x1) dX13_all_128 rfl rfl rfl ?_
      refine z_bipush (q := 131) (v := 6) dX13_all_129 (by decide) rfl ?_
      refine z_icmp_ne (q := 134) (tgt := 138) dX13_all_131 rfl rfl (fun hc => ?_) (fun hc => ?_)
      · have hk := (z_ite hk).2 hc
        have hsc := hsc.2 hc
        refine z_iload_n (q := 139) (i := 3) (x := x3) dX13_all_138 rfl rfl rfl ?_
        refine z_if_ge (q := 142) (tgt := 146) dX13_all_139 rfl rfl (fun hc => ?_) (fun hc => ?_)
        · have hk := (z_ite hk).1 hc
          have hsc := hsc.1 hc
          obtain ⟨g_2, hsc⟩ := hsc
          refine z_aload_n (q := 147) (i := 0) (x := a0) dX13_all_146 rfl rfl rfl ?_
          refine z_get 11 43 (q := 150) (v := .ref (a0 + 28)) rfl (z_lt rfl) (z_L11_T g_1) q1801 dX13_all_147 rfl (z_fvR (fun _ _ _ => rfl) (z_L11_P43 g_1)) ?_
          refine z_iload_n (q := 151) (i := 3) (x := x3) dX13_all_150 rfl rfl rfl ?_
          refine z_iald (q := 152) (n := 20000) (z_L11_A43 g_1) g_2 dX13_all_151 rfl ?_
          exact hk
        · have hk := (z_ite hk).2 hc
          have hsc := hsc.2 hc
          refine z_iconst (q := 143) (v := 0) dX13_all_142 rfl rfl ?_
          refine z_goto (q := 152) dX13_all_143 rfl ?_
          exact hk
      · have hk := (z_ite hk).1 hc
        have hsc := hsc.1 hc
        refine z_iload_n (q := 135) (i := 3) (x := x3) dX13_all_134 rfl rfl rfl ?_
        refine z_goto (q := 152) dX13_all_135 rfl ?_
        exact hk
    · have hk := (z_ite hk).2 hc
      have hsc := hsc.2 hc
      refine z_iload_n (q := 125) (i := 2) (x := x2) dX13_all_124 rfl rfl rfl ?_
      refine z_goto (q := 152) dX13_all_125 rfl ?_
      exact hk
  · have hf := hf.2 hc
    refine z_iload_n (q := 50) (i := 2) (x := x2) dX13_all_49 rfl rfl rfl ?_
    refine z_iload_n (q := 51) (i := 1) (x := x1) dX13_all_50 rfl rfl rfl ?_
    refine z_iconst (q := 52) (v := 5) dX13_all_51 rfl rfl ?_
    obtain ⟨hsc, hf⟩ := hf
    have hk : z_V l G m_X13_all (z_Fm G m_X13_all Q) 0 0 h 73 [some (.ref a0), some (.int x1), some (.int x2), some (.int x3), some (.int x4)] [.int (if 5 ≤ x1 then 0 else (if (h.I (a0 + 27) (Int32.toNatClampNeg x4)) = (x1 - 1) then 1 else 0)), .int x2] := by
      refine z_iadd (q := 74) dX13_all_73 rfl ?_
      refine z_nmI (fun v_4 hv_5 => ?_)
      have hf := hf v_4 hv_5
      refine z_istore_n (q := 75) (i := 2) (ls2 := [some (.ref a0), some (.int x1), some (.int v_4), some (.int x3), some (.int x4)]) (x := v_4) dX13_all_74 rfl (z_lt rfl) rfl rfl ?_
      refine z_aload_n (q := 76) (i := 0) (x := a0) dX13_all_75 rfl rfl rfl ?_
      refine z_get 11 42 (q := 79) (v := .ref (a0 + 27)) rfl (z_lt rfl) (z_L11_T g_1) q1800 dX13_all_76 rfl (z_fvR (fun _ _ _ => rfl) (z_L11_P42 g_1)) ?_
      refine z_iload (q := 81) (i := 4) (x := x4) dX13_all_79 rfl rfl ?_
      obtain ⟨g_6, hf⟩ := hf
      refine z_iald (q := 82) (n := 20000) (z_L11_A42 g_1) g_6 dX13_all_81 rfl ?_
      refine z_iconst (q := 83) (v := 2) dX13_all_82 rfl rfl ?_
      obtain ⟨hsc, hf⟩ := hf
      have hk : z_V l G m_X13_all (z_Fm G m_X13_all Q) 0 0 h 112 [some (.ref a0), some (.int x1), some (.int v_4), some (.int x3), some (.int x4)] [.int (if 2 ≤ (h.I (a0 + 27) (Int32.toNatClampNeg x4)) then x3 else (if x3 < 0 then x4 else (if (h.I (a0 + 28) (Int32.toNatClampNeg x4)) ≤ (h.I (a0 + 28) (Int32.toNatClampNeg x3)) then x3 else x4)))] := by
        refine z_nmI (fun v_9 hv_10 => ?_)
        have hf := hf v_9 hv_10
        refine z_istore_n (q := 113) (i := 3) (ls2 := [some (.ref a0), some (.int x1), some (.int v_4), some (.int v_9), some (.int x4)]) (x := v_9) dX13_all_112 rfl (z_lt rfl) rfl rfl ?_
        refine z_iinc (q := 116) (i := 4) (x := x4) (v := (x4 + 1)) (ls2 := [some (.ref a0), some (.int x1), some (.int v_4), some (.int v_9), some (.int (x4 + 1))]) dX13_all_113 rfl rfl (z_lt rfl) rfl rfl ?_
        refine z_goto (q := 40) dX13_all_116 rfl ?_
        exact hf
      refine z_icmp_ge (q := 86) (tgt := 111) dX13_all_83 rfl rfl (fun hc => ?_) (fun hc => ?_)
      · have hk := (z_ite hk).1 hc
        have hsc := hsc.1 hc
        refine z_iload_n (q := 112) (i := 3) (x := x3) dX13_all_111 rfl rfl rfl ?_
        exact hk
      · have hk := (z_ite hk).2 hc
        have hsc := hsc.2 hc
        refine z_iload_n (q := 87) (i := 3) (x := x3) dX13_all_86 rfl rfl rfl ?_
        refine z_if_lt (q := 90) (tgt := 106) dX13_all_87 rfl rfl (fun hc => ?_) (fun hc => ?_)
        · have hk := (z_ite hk).1 hc
          have hsc := hsc.1 hc
          refine z_iload (q := 108) (i := 4) (x := x4) dX13_all_106 rfl rfl ?_
          refine z_goto (q := 112) dX13_all_108 rfl ?_
          exact hk
        · have hk := (z_ite hk).2 hc
          have hsc := hsc.2 hc
          obtain ⟨g_7, hsc⟩ := hsc
          obtain ⟨g_8, hsc⟩ := hsc
          refine z_aload_n (q := 91) (i := 0) (x := a0) dX13_all_90 rfl rfl rfl ?_
          refine z_get 11 43 (q := 94) (v := .ref (a0 + 28)) rfl (z_lt rfl) (z_L11_T g_1) q1801 dX13_all_91 rfl (z_fvR (fun _ _ _ => rfl) (z_L11_P43 g_1)) ?_
          refine z_iload (q := 96) (i := 4) (x := x4) dX13_all_94 rfl rfl ?_
          refine z_iald (q := 97) (n := 20000) (z_L11_A43 g_1) g_7 dX13_all_96 rfl ?_
          refine z_aload_n (q := 98) (i := 0) (x := a0) dX13_all_97 rfl rfl rfl ?_
          refine z_get 11 43 (q := 101) (v := .ref (a0 + 28)) rfl (z_lt rfl) (z_L11_T g_1) q1801 dX13_all_98 rfl (z_fvR (fun _ _ _ => rfl) (z_L11_P43 g_1)) ?_
          refine z_iload_n (q := 102) (i := 3) (x := x3) dX13_all_101 rfl rfl rfl ?_
          refine z_iald (q := 103) (n := 20000) (z_L11_A43 g_1) g_8 dX13_all_102 rfl ?_
          refine z_icmp_le (q := 106) (tgt := 111) dX13_all_103 rfl rfl (fun hc => ?_) (fun hc => ?_)
          · have hk := (z_ite hk).1 hc
            refine z_iload_n (q := 112) (i := 3) (x := x3) dX13_all_111 rfl rfl rfl ?_
            exact hk
          · have hk := (z_ite hk).2 hc
            refine z_iload (q := 108) (i := 4) (x := x4) dX13_all_106 rfl rfl ?_
            refine z_goto (q := 112) dX13_all_108 rfl ?_
            exact hk
    refine z_icmp_ge (q := 55) (tgt := 72) dX13_all_52 rfl rfl (fun hc => ?_) (fun hc => ?_)
    · have hk := (z_ite hk).1 hc
      have hsc := hsc.1 hc
      refine z_iconst (q := 73) (v := 0) dX13_all_72 rfl rfl ?_
      exact hk
    · have hk := (z_ite hk).2 hc
      have hsc := hsc.2 hc
      obtain ⟨g_3, hsc⟩ := hsc
      refine z_aload_n (q := 56) (i := 0) (x := a0) dX13_all_55 rfl rfl rfl ?_
      refine z_get 11 42 (q := 59) (v := .ref (a0 + 27)) rfl (z_lt rfl) (z_L11_T g_1) q1800 dX13_all_56 rfl (z_fvR (fun _ _ _ => rfl) (z_L11_P42 g_1)) ?_
      refine z_iload (q := 61) (i := 4) (x := x4) dX13_all_59 rfl rfl ?_
      refine z_iald (q := 62) (n := 20000) (z_L11_A42 g_1) g_3 dX13_all_61 rfl ?_
      refine z_iload_n (q := 63) (i := 1) (x := x1) dX13_all_62 rfl rfl rfl ?_
      refine z_iconst (q := 64) (v := 1) dX13_all_63 rfl rfl ?_
      refine z_isub (q := 65) dX13_all_64 rfl ?_
      refine z_icmp_ne (q := 68) (tgt := 72) dX13_all_65 rfl rfl (fun hc => ?_) (fun hc => ?_)
      · have hk := (z_ite hk).2 hc
        refine z_iconst (q := 73) (v := 0) dX13_all_72 rfl rfl ?_
        exact hk
      · have hk := (z_ite hk).1 hc
        refine z_iconst (q := 69) (v := 1) dX13_all_68 rfl rfl ?_
        refine z_goto (q := 73) dX13_all_69 rfl ?_
        exact hk

theorem u_X13_ands {l : Launch} {G : z_G} {d : Nat} {a0 : Nat} {x1 : Int32} {h : z_H} {Q : z_Q} (hst : l.stackTraces = false)  (hf : z_L11 h a0 ∧ z_Ct l G (m_X13_test d) [.ref a0, .int x1] h (z_Qv (fun h_2 => z_V l G (m_X13_ands d) (z_Fm G (m_X13_ands d) Q) 0 0 h_2 5 [some (.ref a0), some (.int x1), none] []))) : z_Ct l G (m_X13_ands d) [.ref a0, .int x1] h Q := by
  refine z_Ct.of (ls := [some (.ref a0), some (.int x1), none]) hst rfl (by show plainName yX13_ands.cls = true; decide +kernel) (z_le rfl) rfl ?_
  show z_V l G (m_X13_ands d) (z_Fm G (m_X13_ands d) Q) 0 0 h 0 [some (.ref a0), some (.int x1), none] []
  refine z_aload_n (q := 1) (i := 0) (x := a0) dX13_ands_0 rfl rfl rfl ?_
  refine z_iload_n (q := 2) (i := 1) (x := x1) dX13_ands_1 rfl rfl rfl ?_
  obtain ⟨g_1, hf⟩ := hf
  refine z_cVv (m_X13_test d) [.int x1] (a0) (q := 5) (rc2 := 0) (rs2 := 0) (st := []) dX13_ands_2 rfl q2010 (oV_X13_test _) rfl rfl (z_room_of (by first | exact z_le rfl | (simp only [z_M.d, z_M.nL, z_M.lo, m_X13_test, m_X13_ands]; omega)) (by first | exact z_le rfl | (simp only [z_M.d, z_M.nL, z_M.lo, m_X13_test, m_X13_ands]; omega))) (z_le rfl) (z_rcv_of 11 rfl (z_L11_T g_1) rfl) rfl  rfl hf (fun h_2 hf => ?_)
  exact hf

theorem b_X13_ands_5 {l : Launch} {G : z_G} {d : Nat} {a0 : Nat} {x1 : Int32} {h : z_H} {Q : z_Q}  (hf : z_L11 h a0 ∧ z_Ct l G m_X13_isWord [.ref a0, .int 18] h (z_Qi (fun x_2 h_3 => (x_2 = 0 → z_L11 h_3 a0 ∧ z_Ct l G m_X13_isWord [.ref a0, .int 19] h_3 (z_Qi (fun x_12 h_13 => (x_12 = 0 → Q none h_13) ∧ (¬ x_12 = 0 → z_L11 h_13 a0 ∧ z_Ct l G m_X13_isWord [.ref a0, .int 18] h_13 (z_Qi (fun x_15 h_16 => z_L11 h_16 a0 ∧ z_Ct l G (m_X13_test d) [.ref a0, .int x1] (h_16.sI a0 7 ((h_16.I a0 7) + 1)) (z_Qv (fun h_18 => z_L11 h_18 a0 ∧ z_Ct l G m_X13_emit [.ref a0, .int (if x_15 = 0 then 10 else 9), .int 0] h_18 (z_Qv (fun h_20 => z_V l G (m_X13_ands d) (z_Fm G (m_X13_ands d) Q) 0 0 h_20 5 [some (.ref a0), some (.int x1), none] [])))))))))) ∧ (¬ x_2 = 0 → z_L11 h_3 a0 ∧ z_Ct l G m_X13_isWord [.ref a0, .int 18] h_3 (z_Qi (fun x_5 h_6 => z_L11 h_6 a0 ∧ z_Ct l G (m_X13_test d) [.ref a0, .int x1] (h_6.sI a0 7 ((h_6.I a0 7) + 1)) (z_Qv (fun h_8 => z_L11 h_8 a0 ∧ z_Ct l G m_X13_emit [.ref a0, .int (if x_5 = 0 then 10 else 9), .int 0] h_8 (z_Qv (fun h_10 => z_V l G (m_X13_ands d) (z_Fm G (m_X13_ands d) Q) 0 0 h_10 5 [some (.ref a0), some (.int x1), none] [])))))))))) : z_V l G (m_X13_ands d) (z_Fm G (m_X13_ands d) Q) 0 0 h 5 [some (.ref a0), some (.int x1), none] [] := by
  refine z_aload_n (q := 6) (i := 0) (x := a0) dX13_ands_5 rfl rfl rfl ?_
  refine z_bipush (q := 8) (v := 18) dX13_ands_6 (by decide) rfl ?_
  obtain ⟨g_1, hf⟩ := hf
  refine z_cVi m_X13_isWord [.int 18] (a0) (q := 11) (rc2 := 0) (rs2 := 0) (st := []) dX13_ands_8 rfl q1954 oV_X13_isWord rfl rfl (z_room_of (by first | exact z_le rfl | (simp only [z_M.d, z_M.nL, z_M.lo, m_X13_isWord, m_X13_ands]; omega)) (by first | exact z_le rfl | (simp only [z_M.d, z_M.nL, z_M.lo, m_X13_isWord, m_X13_ands]; omega))) (z_le rfl) (z_rcv_of 11 rfl (z_L11_T g_1) rfl) rfl  rfl hf (fun x_2 h_3 hf => ?_)
  refine z_if_ne (q := 14) (tgt := 23) dX13_ands_11 rfl rfl (fun hc => ?_) (fun hc => ?_)
  · have hf := hf.2 hc
    refine z_aload_n (q := 24) (i := 0) (x := a0) dX13_ands_23 rfl rfl rfl ?_
    refine z_bipush (q := 26) (v := 18) dX13_ands_24 (by decide) rfl ?_
    obtain ⟨g_4, hf⟩ := hf
    refine z_cVi m_X13_isWord [.int 18] (a0) (q := 29) (rc2 := 0) (rs2 := 0) (st := []) dX13_ands_26 rfl q1954 oV_X13_isWord rfl rfl (z_room_of (by first | exact z_le rfl | (simp only [z_M.d, z_M.nL, z_M.lo, m_X13_isWord, m_X13_ands]; omega)) (by first | exact z_le rfl | (simp only [z_M.d, z_M.nL, z_M.lo, m_X13_isWord, m_X13_ands]; omega))) (z_le rfl) (z_rcv_of 11 rfl (z_L11_T g_4) rfl) rfl  rfl hf (fun x_5 h_6 hf => ?_)
    refine z_istore_n (q := 30) (i := 2) (ls2 := [some (.ref a0), some (.int x1), some (.int x_5)]) (x := x_5) dX13_ands_29 rfl (z_lt rfl) rfl rfl ?_
    refine z_aload_n (q := 31) (i := 0) (x := a0) dX13_ands_30 rfl rfl rfl ?_
    refine z_dup (q := 32) dX13_ands_31 rfl rfl ?_
    obtain ⟨g_7, hf⟩ := hf
    refine z_get 11 7 (q := 35) (v := .int (h_6.I a0 7)) rfl (z_lt rfl) (z_L11_T g_7) q1765 dX13_ands_32 rfl rfl ?_
    refine z_iconst (q := 36) (v := 1) dX13_ands_35 rfl rfl ?_
    refine z_iadd (q := 37) dX13_ands_36 rfl ?_
    refine z_putI 11 7 (q := 40) (x := ((h_6.I a0 7) + 1)) (v := .int ((h_6.I a0 7) + 1)) rfl (z_lt rfl) (z_L11_T g_7) q1765 rfl dX13_ands_37 rfl rfl rfl rfl (fun _ _ _ => rfl) ?_
    refine z_aload_n (q := 41) (i := 0) (x := a0) dX13_ands_40 rfl rfl rfl ?_
    refine z_iload_n (q := 42) (i := 1) (x := x1) dX13_ands_41 rfl rfl rfl ?_
    refine z_cVv (m_X13_test d) [.int x1] (a0) (q := 45) (rc2 := 0) (rs2 := 0) (st := []) dX13_ands_42 rfl q2010 (oV_X13_test _) rfl rfl (z_room_of (by first | exact z_le rfl | (simp only [z_M.d, z_M.nL, z_M.lo, m_X13_test, m_X13_ands]; omega)) (by first | exact z_le rfl | (simp only [z_M.d, z_M.nL, z_M.lo, m_X13_test, m_X13_ands]; omega))) (z_le rfl) (z_rcv_of 11 rfl (z_L11_T g_7) rfl) rfl  rfl hf (fun h_8 hf => ?_)
    refine z_aload_n (q := 46) (i := 0) (x := a0) dX13_ands_45 rfl rfl rfl ?_
    refine z_iload_n (q := 47) (i := 2) (x := x_5) dX13_ands_46 rfl rfl rfl ?_
    have hk : z_V l G (m_X13_ands d) (z_Fm G (m_X13_ands d) Q) 0 0 h_8 57 [some (.ref a0), some (.int x1), some (.int x_5)] [.int (if x_5 = 0 then 10 else 9), .ref a0] := by
      refine z_iconst (q := 58) (v := 0) dX13_ands_57 rfl rfl ?_
      obtain ⟨g_9, hf⟩ := hf
      refine z_cVv m_X13_emit [.int (if x_5 = 0 then 10 else 9), .int 0] (a0) (q := 61) (rc2 := 0) (rs2 := 0) (st := []) dX13_ands_58 rfl q2030 oV_X13_emit rfl rfl (z_room_of (by first | exact z_le rfl | (simp only [z_M.d, z_M.nL, z_M.lo, m_X13_emit, m_X13_ands]; omega)) (by first | exact z_le rfl | (simp only [z_M.d, z_M.nL, z_M.lo, m_X13_emit, m_X13_ands]; omega))) (z_le rfl) (z_rcv_of 11 rfl (z_L11_T g_9) rfl) rfl  rfl hf (fun h_10 hf => ?_)
      refine z_goto (q := 5) dX13_ands_61 rfl ?_
      refine z_prune [true, true, false] (ls2 := [some (.ref a0), some (.int x1), none]) rfl ?_
      exact hf
    refine z_if_eq (q := 50) (tgt := 55) dX13_ands_47 rfl rfl (fun hc => ?_) (fun hc => ?_)
    · have hk := (z_ite hk).1 hc
      refine z_bipush (q := 57) (v := 10) dX13_ands_55 (by decide) rfl ?_
      exact hk
    · have hk := (z_ite hk).2 hc
      refine z_bipush (q := 52) (v := 9) dX13_ands_50 (by decide) rfl ?_
      refine z_goto (q := 57) dX13_ands_52 rfl ?_
      exact hk
  · have hf := hf.1 hc
    refine z_aload_n (q := 15) (i := 0) (x := a0) dX13_ands_14 rfl rfl rfl ?_
    refine z_bipush (q := 17) (v := 19) dX13_ands_15 (by decide) rfl ?_
    obtain ⟨g_11, hf⟩ := hf
    refine z_cVi m_X13_isWord [.int 19] (a0) (q := 20) (rc2 := 0) (rs2 := 0) (st := []) dX13_ands_17 rfl q1954 oV_X13_isWord rfl rfl (z_room_of (by first | exact z_le rfl | (simp only [z_M.d, z_M.nL, z_M.lo, m_X13_isWord, m_X13_ands]; omega)) (by first | exact z_le rfl | (simp only [z_M.d, z_M.nL, z_M.lo, m_X13_isWord, m_X13_ands]; omega))) (z_le rfl) (z_rcv_of 11 rfl (z_L11_T g_11) rfl) rfl  rfl hf (fun x_12 h_13 hf => ?_)
    refine z_if_eq (q := 23) (tgt := 64) dX13_ands_20 rfl rfl (fun hc => ?_) (fun hc => ?_)
    · have hf := hf.1 hc
      exact z_vret dX13_ands_64 rfl hf
    · have hf := hf.2 hc
      refine z_aload_n (q := 24) (i := 0) (x := a0) dX13_ands_23 rfl rfl rfl ?_
      refine z_bipush (q := 26) (v := 18) dX13_ands_24 (by decide) rfl ?_
      obtain ⟨g_14, hf⟩ := hf
      refine z_cVi m_X13_isWord [.int 18] (a0) (q := 29) (rc2 := 0) (rs2 := 0) (st := []) dX13_ands_26 rfl q1954 oV_X13_isWord rfl rfl (z_room_of (by first | exact z_le rfl | (simp only [z_M.d, z_M.nL, z_M.lo, m_X13_isWord, m_X13_ands]; omega)) (by first | exact z_le rfl | (simp only [z_M.d, z_M.nL, z_M.lo, m_X13_isWord, m_X13_ands]; omega))) (z_le rfl) (z_rcv_of 11 rfl (z_L11_T g_14) rfl) rfl  rfl hf (fun x_15 h_16 hf => ?_)
      refine z_istore_n (q := 30) (i := 2) (ls2 := [some (.ref a0), some (.int x1), some (.int x_15)]) (x := x_15) dX13_ands_29 rfl (z_lt rfl) rfl rfl ?_
      refine z_aload_n (q := 31) (i := 0) (x := a0) dX13_ands_30 rfl rfl rfl ?_
      refine z_dup (q := 32) dX13_ands_31 rfl rfl ?_
      obtain ⟨g_17, hf⟩ := hf
      refine z_get 11 7 (q := 35) (v := .int (h_16.I a0 7)) rfl (z_lt rfl) (z_L11_T g_17) q1765 dX13_ands_32 rfl rfl ?_
      refine z_iconst (q := 36) (v := 1) dX13_ands_35 rfl rfl ?_
      refine z_iadd (q := 37) dX13_ands_36 rfl ?_
      refine z_putI 11 7 (q := 40) (x := ((h_16.I a0 7) + 1)) (v := .int ((h_16.I a0 7) + 1)) rfl (z_lt rfl) (z_L11_T g_17) q1765 rfl dX13_ands_37 rfl rfl rfl rfl (fun _ _ _ => rfl) ?_
      refine z_aload_n (q := 41) (i := 0) (x := a0) dX13_ands_40 rfl rfl rfl ?_
      refine z_iload_n (q := 42) (i := 1) (x := x1) dX13_ands_41 rfl rfl rfl ?_
      refine z_cVv (m_X13_test d) [.int x1] (a0) (q := 45) (rc2 := 0) (rs2 := 0) (st := []) dX13_ands_42 rfl q2010 (oV_X13_test _) rfl rfl (z_room_of (by first | exact z_le rfl | (simp only [z_M.d, z_M.nL, z_M.lo, m_X13_test, m_X13_ands]; omega)) (by first | exact z_le rfl | (simp only [z_M.d, z_M.nL, z_M.lo, m_X13_test, m_X13_ands]; omega))) (z_le rfl) (z_rcv_of 11 rfl (z_L11_T g_17) rfl) rfl  rfl hf (fun h_18 hf => ?_)
      refine z_aload_n (q := 46) (i := 0) (x := a0) dX13_ands_45 rfl rfl rfl ?_
      refine z_iload_n (q := 47) (i := 2) (x := x_15) dX13_ands_46 rfl rfl rfl ?_
      have hk : z_V l G (m_X13_ands d) (z_Fm G (m_X13_ands d) Q) 0 0 h_18 57 [some (.ref a0), some (.int x1), some (.int x_15)] [.int (if x_15 = 0 then 10 else 9), .ref a0] := by
        refine z_iconst (q := 58) (v := 0) dX13_ands_57 rfl rfl ?_
        obtain ⟨g_19, hf⟩ := hf
        refine z_cVv m_X13_emit [.int (if x_15 = 0 then 10 else 9), .int 0] (a0) (q := 61) (rc2 := 0) (rs2 := 0) (st := []) dX13_ands_58 rfl q2030 oV_X13_emit rfl rfl (z_room_of (by first | exact z_le rfl | (simp only [z_M.d, z_M.nL, z_M.lo, m_X13_emit, m_X13_ands]; omega)) (by first | exact z_le rfl | (simp only [z_M.d, z_M.nL, z_M.lo, m_X13_emit, m_X13_ands]; omega))) (z_le rfl) (z_rcv_of 11 rfl (z_L11_T g_19) rfl) rfl  rfl hf (fun h_20 hf => ?_)
        refine z_goto (q := 5) dX13_ands_61 rfl ?_
        refine z_prune [true, true, false] (ls2 := [some (.ref a0), some (.int x1), none]) rfl ?_
        exact hf
      refine z_if_eq (q := 50) (tgt := 55) dX13_ands_47 rfl rfl (fun hc => ?_) (fun hc => ?_)
      · have hk := (z_ite hk).1 hc
        refine z_bipush (q := 57) (v := 10) dX13_ands_55 (by decide) rfl ?_
        exact hk
      · have hk := (z_ite hk).2 hc
        refine z_bipush (q := 52) (v := 9) dX13_ands_50 (by decide) rfl ?_
        refine z_goto (q := 57) dX13_ands_52 rfl ?_
        exact hk

theorem u_X13_beginner {l : Launch} {G : z_G} {a0 : Nat} {x1 : Int32} {h : z_H} {Q : z_Q} (hst : l.stackTraces = false)  (hf : z_L11 h a0 ∧ z_Ct l G m_X13_within [.int x1, .int 0, .int 2] (h.sI a0 0 0) (z_Qi (fun x_2 h_3 => (x_2 = 0 → Q (some (.int (-1))) h_3) ∧ (¬ x_2 = 0 → z_L11 h_3 a0 ∧ z_Ct l G m_X13_counts [.ref a0] h_3 (z_Qi (fun x_5 h_6 => (x_5 = 0 → Q (some (.int (-1))) h_6) ∧ (¬ x_5 = 0 → z_V l G m_X13_beginner (z_Fm G m_X13_beginner Q) 0 0 h_6 30 [some (.ref a0), some (.int x1), some (.int 0), some (.int 0), some (.int 0), none, none] []))))))) : z_Ct l G m_X13_beginner [.ref a0, .int x1] h Q := by
  refine z_Ct.of (ls := [some (.ref a0), some (.int x1), none, none, none, none, none]) hst rfl (by show plainName yX13_beginner.cls = true; decide +kernel) (z_le rfl) rfl ?_
  show z_V l G m_X13_beginner (z_Fm G m_X13_beginner Q) 0 0 h 0 [some (.ref a0), some (.int x1), none, none, none, none, none] []
  refine z_aload_n (q := 1) (i := 0) (x := a0) dX13_beginner_0 rfl rfl rfl ?_
  refine z_iconst (q := 2) (v := 0) dX13_beginner_1 rfl rfl ?_
  obtain ⟨g_1, hf⟩ := hf
  refine z_putI 11 0 (q := 5) (x := 0) (v := .int 0) rfl (z_lt rfl) (z_L11_T g_1) q1758 rfl dX13_beginner_2 rfl rfl rfl rfl (fun _ _ _ => rfl) ?_
  refine z_iload_n (q := 6) (i := 1) (x := x1) dX13_beginner_5 rfl rfl rfl ?_
  refine z_iconst (q := 7) (v := 0) dX13_beginner_6 rfl rfl ?_
  refine z_iconst (q := 8) (v := 2) dX13_beginner_7 rfl rfl ?_
  refine z_cSi m_X13_within [.int x1, .int 0, .int 2] (q := 11) (rc2 := 0) (rs2 := 0) (st := []) dX13_beginner_8 rfl q2074 oS_X13_within rfl rfl ⟨z_le rfl, z_le rfl⟩ (z_le rfl) rfl  rfl hf (fun x_2 h_3 hf => ?_)
  refine z_if_eq (q := 14) (tgt := 21) dX13_beginner_11 rfl rfl (fun hc => ?_) (fun hc => ?_)
  · have hf := hf.1 hc
    refine z_iconst (q := 22) (v := (-1)) dX13_beginner_21 rfl rfl ?_
    exact z_iret dX13_beginner_22 rfl hf
  · have hf := hf.2 hc
    refine z_aload_n (q := 15) (i := 0) (x := a0) dX13_beginner_14 rfl rfl rfl ?_
    obtain ⟨g_4, hf⟩ := hf
    refine z_cVi m_X13_counts [] (a0) (q := 18) (rc2 := 0) (rs2 := 0) (st := []) dX13_beginner_15 rfl q2190 oV_X13_counts rfl rfl ⟨z_le rfl, z_le rfl⟩ (z_le rfl) (z_rcv_of 11 rfl (z_L11_T g_4) rfl) rfl  rfl hf (fun x_5 h_6 hf => ?_)
    refine z_if_ne (q := 21) (tgt := 23) dX13_beginner_18 rfl rfl (fun hc => ?_) (fun hc => ?_)
    · have hf := hf.2 hc
      refine z_iconst (q := 24) (v := 0) dX13_beginner_23 rfl rfl ?_
      refine z_istore_n (q := 25) (i := 2) (ls2 := [some (.ref a0), some (.int x1), some (.int 0), none, none, none, none]) (x := 0) dX13_beginner_24 rfl (z_lt rfl) rfl rfl ?_
      refine z_iconst (q := 26) (v := 0) dX13_beginner_25 rfl rfl ?_
      refine z_istore_n (q := 27) (i := 3) (ls2 := [some (.ref a0), some (.int x1), some (.int 0), some (.int 0), none, none, none]) (x := 0) dX13_beginner_26 rfl (z_lt rfl) rfl rfl ?_
      refine z_iconst (q := 28) (v := 0) dX13_beginner_27 rfl rfl ?_
      refine z_istore (q := 30) (i := 4) (ls2 := [some (.ref a0), some (.int x1), some (.int 0), some (.int 0), some (.int 0), none, none]) (x := 0) dX13_beginner_28 (z_lt rfl) rfl rfl ?_
      exact hf
    · have hf := hf.1 hc
      refine z_iconst (q := 22) (v := (-1)) dX13_beginner_21 rfl rfl ?_
      exact z_iret dX13_beginner_22 rfl hf

theorem b_X13_beginner_30 {l : Launch} {G : z_G} {a0 : Nat} {x1 : Int32} {x2 : Int32} {x3 : Int32} {x4 : Int32} {h : z_H} {Q : z_Q}  (hf : z_L11 h a0 ∧ ((h.I a0 44) ≤ x4 → Q (some (.int (if x1 = 0 then x2 else (if x1 = 1 then x3 else (((2 * (h.I a0 44)) - x2) - x3))))) h) ∧ (¬ (h.I a0 44) ≤ x4 → z_V l G m_X13_beginner (z_Fm G m_X13_beginner Q) 0 0 h 42 [some (.ref a0), some (.int x1), some (.int x2), some (.int x3), some (.int x4), some (.int 0), none] [])) : z_V l G m_X13_beginner (z_Fm G m_X13_beginner Q) 0 0 h 30 [some (.ref a0), some (.int x1), some (.int x2), some (.int x3), some (.int x4), none, none] [] := by
  refine z_iload (q := 32) (i := 4) (x := x4) dX13_beginner_30 rfl rfl ?_
  refine z_aload_n (q := 33) (i := 0) (x := a0) dX13_beginner_32 rfl rfl rfl ?_
  obtain ⟨g_1, hf⟩ := hf
  refine z_get 11 44 (q := 36) (v := .int (h.I a0 44)) rfl (z_lt rfl) (z_L11_T g_1) q1802 dX13_beginner_33 rfl rfl ?_
  refine z_icmp_ge (q := 39) (tgt := 153) dX13_beginner_36 rfl rfl (fun hc => ?_) (fun hc => ?_)
  · have hf := hf.1 hc
    refine z_iload_n (q := 154) (i := 1) (x := x1) dX13_beginner_153 rfl rfl rfl ?_
    have hk : z_V l G m_X13_beginner (z_Fm G m_X13_beginner Q) 0 0 h 180 [some (.ref a0), some (.int x1), some (.int x2), some (.int x3), some (.int x4), none, none] [.int (if x1 = 0 then x2 else (if x1 = 1 then x3 else (((2 * (h.I a0 44)) - x2) - x3)))] := by
      exact z_iret dX13_beginner_180 rfl hf
    refine z_if_ne (q := 157) (tgt := 161) dX13_beginner_154 rfl rfl (fun hc => ?_) (fun hc => ?_)
    · have hk := (z_ite hk).2 hc
      refine z_iload_n (q := 162) (i := 1) (x := x1) dX13_beginner_161 rfl rfl rfl ?_
      refine z_iconst (q := 163) (v := 1) dX13_beginner_162 rfl rfl ?_
      refine z_icmp_ne (q := 166) (tgt := 170) dX13_beginner_163 rfl rfl (fun hc => ?_) (fun hc => ?_)
      · have hk := (z_ite hk).2 hc
        refine z_iconst (q := 171) (v := 2) dX13_beginner_170 rfl rfl ?_
        refine z_aload_n (q := 172) (i := 0) (x := a0) dX13_beginner_171 rfl rfl rfl ?_
        refine z_get 11 44 (q := 175) (v := .int (h.I a0 44)) rfl (z_lt rfl) (z_L11_T g_1) q1802 dX13_beginner_172 rfl rfl ?_
        refine z_imul (q := 176) dX13_beginner_175 rfl ?_
        refine z_iload_n (q := 177) (i := 2) (x := x2) dX13_beginner_176 rfl rfl rfl ?_
        refine z_isub (q := 178) dX13_beginner_177 rfl ?_
        refine z_iload_n (q := 179) (i := 3) (x := x3) dX13_beginner_178 rfl rfl rfl ?_
        refine z_isub (q := 180) dX13_beginner_179 rfl ?_
        exact hk
      · have hk := (z_ite hk).1 hc
        refine z_iload_n (q := 167) (i := 3) (x := x3) dX13_beginner_166 rfl rfl rfl ?_
        refine z_goto (q := 180) dX13_beginner_167 rfl ?_
        exact hk
    · have hk := (z_ite hk).1 hc
      refine z_iload_n (q := 158) (i := 2) (x := x2) dX13_beginner_157 rfl rfl rfl ?_
      refine z_goto (q := 180) dX13_beginner_158 rfl ?_
      exact hk
  · have hf := hf.2 hc
    refine z_iconst (q := 40) (v := 0) dX13_beginner_39 rfl rfl ?_
    refine z_istore (q := 42) (i := 5) (ls2 := [some (.ref a0), some (.int x1), some (.int x2), some (.int x3), some (.int x4), some (.int 0), none]) (x := 0) dX13_beginner_40 (z_lt rfl) rfl rfl ?_
    exact hf

theorem b_X13_beginner_42 {l : Launch} {G : z_G} {a0 : Nat} {x1 : Int32} {x2 : Int32} {x3 : Int32} {x4 : Int32} {x5 : Int32} {h : z_H} {Q : z_Q}  (hf : (2 ≤ x5 → z_L11 h a0 ∧ z_Ct l G m_X13_goesNext [.ref a0, .ref (a0 + 26), .int (h.I a0 41)] h (z_Qi (fun x_2 h_3 => z_V l G m_X13_beginner (z_Fm G m_X13_beginner Q) 0 0 h_3 30 [some (.ref a0), some (.int x1), some (.int x2), some (.int x3), some (.int (x4 + 1)), none, none] []))) ∧ (¬ 2 ≤ x5 → z_L11 h a0 ∧ vp_in x4 20000 ∧ ∀ v_6 : Int32, v_6 = (h.I (a0 + 27) (Int32.toNatClampNeg x4)) → vp_in 2 420 ∧ (x5 = (h.I (a0 + 6) (Int32.toNatClampNeg 2)) → z_V l G m_X13_beginner (z_Fm G m_X13_beginner Q) 0 0 h 96 [some (.ref a0), some (.int x1), some (.int x2), some (.int x3), some (.int x4), some (.int x5), some (.int v_6)] []) ∧ (¬ x5 = (h.I (a0 + 6) (Int32.toNatClampNeg 2)) → z_Ct l G m_X13_dealsTrial [.ref a0, .ref (a0 + 26), .int (h.I a0 41), .int x5] h (z_Qv (fun h_9 => z_L11 h_9 a0 ∧ z_Ct l G m_X13_runs [.ref a0, .int 9660, .int (-1)] h_9 (z_Qv (fun h_11 => z_L11 h_11 a0 ∧ z_V l G m_X13_beginner (z_Fm G m_X13_beginner Q) 0 0 h_11 96 [some (.ref a0), some (.int x1), some (.int x2), some (.int x3), some (.int x4), some (.int x5), some (.int (h_11.I a0 36))] []))))))) : z_V l G m_X13_beginner (z_Fm G m_X13_beginner Q) 0 0 h 42 [some (.ref a0), some (.int x1), some (.int x2), some (.int x3), some (.int x4), some (.int x5), none] [] := by
  refine z_iload (q := 44) (i := 5) (x := x5) dX13_beginner_42 rfl rfl ?_
  refine z_iconst (q := 45) (v := 2) dX13_beginner_44 rfl rfl ?_
  refine z_icmp_ge (q := 48) (tgt := 134) dX13_beginner_45 rfl rfl (fun hc => ?_) (fun hc => ?_)
  · have hf := hf.1 hc
    refine z_aload_n (q := 135) (i := 0) (x := a0) dX13_beginner_134 rfl rfl rfl ?_
    refine z_aload_n (q := 136) (i := 0) (x := a0) dX13_beginner_135 rfl rfl rfl ?_
    obtain ⟨g_1, hf⟩ := hf
    refine z_get 11 40 (q := 139) (v := .ref (a0 + 26)) rfl (z_lt rfl) (z_L11_T g_1) q1798 dX13_beginner_136 rfl (z_fvR (fun _ _ _ => rfl) (z_L11_P40 g_1)) ?_
    refine z_aload_n (q := 140) (i := 0) (x := a0) dX13_beginner_139 rfl rfl rfl ?_
    refine z_get 11 41 (q := 143) (v := .int (h.I a0 41)) rfl (z_lt rfl) (z_L11_T g_1) q1799 dX13_beginner_140 rfl rfl ?_
    refine z_cVi m_X13_goesNext [.ref (a0 + 26), .int (h.I a0 41)] (a0) (q := 146) (rc2 := 0) (rs2 := 0) (st := []) dX13_beginner_143 rfl q2207 oV_X13_goesNext rfl rfl ⟨z_le rfl, z_le rfl⟩ (z_le rfl) (z_rcv_of 11 rfl (z_L11_T g_1) rfl) rfl  rfl hf (fun x_2 h_3 hf => ?_)
    refine z_pop (q := 147) dX13_beginner_146 rfl rfl ?_
    refine z_iinc (q := 150) (i := 4) (x := x4) (v := (x4 + 1)) (ls2 := [some (.ref a0), some (.int x1), some (.int x2), some (.int x3), some (.int (x4 + 1)), some (.int x5), none]) dX13_beginner_147 rfl rfl (z_lt rfl) rfl rfl ?_
    refine z_goto (q := 30) dX13_beginner_150 rfl ?_
    refine z_prune [true, true, true, true, true, false, false] (ls2 := [some (.ref a0), some (.int x1), some (.int x2), some (.int x3), some (.int (x4 + 1)), none, none]) rfl ?_
    exact hf
  · have hf := hf.2 hc
    refine z_aload_n (q := 49) (i := 0) (x := a0) dX13_beginner_48 rfl rfl rfl ?_
    obtain ⟨g_4, hf⟩ := hf
    refine z_get 11 42 (q := 52) (v := .ref (a0 + 27)) rfl (z_lt rfl) (z_L11_T g_4) q1800 dX13_beginner_49 rfl (z_fvR (fun _ _ _ => rfl) (z_L11_P42 g_4)) ?_
    refine z_iload (q := 54) (i := 4) (x := x4) dX13_beginner_52 rfl rfl ?_
    obtain ⟨g_5, hf⟩ := hf
    refine z_iald (q := 55) (n := 20000) (z_L11_A42 g_4) g_5 dX13_beginner_54 rfl ?_
    refine z_nmI (fun v_6 hv_7 => ?_)
    have hf := hf v_6 hv_7
    refine z_istore (q := 57) (i := 6) (ls2 := [some (.ref a0), some (.int x1), some (.int x2), some (.int x3), some (.int x4), some (.int x5), some (.int v_6)]) (x := v_6) dX13_beginner_55 (z_lt rfl) rfl rfl ?_
    refine z_iload (q := 59) (i := 5) (x := x5) dX13_beginner_57 rfl rfl ?_
    refine z_aload_n (q := 60) (i := 0) (x := a0) dX13_beginner_59 rfl rfl rfl ?_
    refine z_get 11 10 (q := 63) (v := .ref (a0 + 6)) rfl (z_lt rfl) (z_L11_T g_4) q1768 dX13_beginner_60 rfl (z_fvR (fun _ _ _ => rfl) (z_L11_P10 g_4)) ?_
    refine z_iconst (q := 64) (v := 2) dX13_beginner_63 rfl rfl ?_
    obtain ⟨g_8, hf⟩ := hf
    refine z_iald (q := 65) (n := 420) (z_L11_A10 g_4) g_8 dX13_beginner_64 rfl ?_
    refine z_icmp_eq (q := 68) (tgt := 96) dX13_beginner_65 rfl rfl (fun hc => ?_) (fun hc => ?_)
    · have hf := hf.1 hc
      exact hf
    · have hf := hf.2 hc
      refine z_aload_n (q := 69) (i := 0) (x := a0) dX13_beginner_68 rfl rfl rfl ?_
      refine z_aload_n (q := 70) (i := 0) (x := a0) dX13_beginner_69 rfl rfl rfl ?_
      refine z_get 11 40 (q := 73) (v := .ref (a0 + 26)) rfl (z_lt rfl) (z_L11_T g_4) q1798 dX13_beginner_70 rfl (z_fvR (fun _ _ _ => rfl) (z_L11_P40 g_4)) ?_
      refine z_aload_n (q := 74) (i := 0) (x := a0) dX13_beginner_73 rfl rfl rfl ?_
      refine z_get 11 41 (q := 77) (v := .int (h.I a0 41)) rfl (z_lt rfl) (z_L11_T g_4) q1799 dX13_beginner_74 rfl rfl ?_
      refine z_iload (q := 79) (i := 5) (x := x5) dX13_beginner_77 rfl rfl ?_
      refine z_cVv m_X13_dealsTrial [.ref (a0 + 26), .int (h.I a0 41), .int x5] (a0) (q := 82) (rc2 := 0) (rs2 := 0) (st := []) dX13_beginner_79 rfl q2203 oV_X13_dealsTrial rfl rfl ⟨z_le rfl, z_le rfl⟩ (z_le rfl) (z_rcv_of 11 rfl (z_L11_T g_4) rfl) rfl  rfl hf (fun h_9 hf => ?_)
      refine z_aload_n (q := 83) (i := 0) (x := a0) dX13_beginner_82 rfl rfl rfl ?_
      refine z_sipush (q := 86) (v := 9660) dX13_beginner_83 (by decide) rfl ?_
      refine z_iconst (q := 87) (v := (-1)) dX13_beginner_86 rfl rfl ?_
      obtain ⟨g_10, hf⟩ := hf
      refine z_cVv m_X13_runs [.int 9660, .int (-1)] (a0) (q := 90) (rc2 := 0) (rs2 := 0) (st := []) dX13_beginner_87 rfl q2168 oV_X13_runs rfl rfl ⟨z_le rfl, z_le rfl⟩ (z_le rfl) (z_rcv_of 11 rfl (z_L11_T g_10) rfl) rfl  rfl hf (fun h_11 hf => ?_)
      refine z_aload_n (q := 91) (i := 0) (x := a0) dX13_beginner_90 rfl rfl rfl ?_
      obtain ⟨g_12, hf⟩ := hf
      refine z_get 11 36 (q := 94) (v := .int (h_11.I a0 36)) rfl (z_lt rfl) (z_L11_T g_12) q1794 dX13_beginner_91 rfl rfl ?_
      refine z_istore (q := 96) (i := 6) (ls2 := [some (.ref a0), some (.int x1), some (.int x2), some (.int x3), some (.int x4), some (.int x5), some (.int (h_11.I a0 36))]) (x := (h_11.I a0 36)) dX13_beginner_94 (z_lt rfl) rfl rfl ?_
      exact hf

theorem b_X13_beginner_96 {l : Launch} {G : z_G} {a0 : Nat} {x1 : Int32} {x2 : Int32} {x3 : Int32} {x4 : Int32} {x5 : Int32} {x6 : Int32} {h : z_H} {Q : z_Q}  (hf : ∀ v_1 : Int32, v_1 = (x2 + (if x6 = x5 then 1 else 0)) → ∀ v_3 : Int32, v_3 = (x3 + (if x6 = (1 - x5) then 1 else 0)) → z_V l G m_X13_beginner (z_Fm G m_X13_beginner Q) 0 0 h 42 [some (.ref a0), some (.int x1), some (.int v_1), some (.int v_3), some (.int x4), some (.int (x5 + 1)), none] []) : z_V l G m_X13_beginner (z_Fm G m_X13_beginner Q) 0 0 h 96 [some (.ref a0), some (.int x1), some (.int x2), some (.int x3), some (.int x4), some (.int x5), some (.int x6)] [] := by
  refine z_iload_n (q := 97) (i := 2) (x := x2) dX13_beginner_96 rfl rfl rfl ?_
  refine z_iload (q := 99) (i := 6) (x := x6) dX13_beginner_97 rfl rfl ?_
  refine z_iload (q := 101) (i := 5) (x := x5) dX13_beginner_99 rfl rfl ?_
  have hk : z_V l G m_X13_beginner (z_Fm G m_X13_beginner Q) 0 0 h 109 [some (.ref a0), some (.int x1), some (.int x2), some (.int x3), some (.int x4), some (.int x5), some (.int x6)] [.int (if x6 = x5 then 1 else 0), .int x2] := by
    refine z_iadd (q := 110) dX13_beginner_109 rfl ?_
    refine z_nmI (fun v_1 hv_2 => ?_)
    have hf := hf v_1 hv_2
    refine z_istore_n (q := 111) (i := 2) (ls2 := [some (.ref a0), some (.int x1), some (.int v_1), some (.int x3), some (.int x4), some (.int x5), some (.int x6)]) (x := v_1) dX13_beginner_110 rfl (z_lt rfl) rfl rfl ?_
    refine z_iload_n (q := 112) (i := 3) (x := x3) dX13_beginner_111 rfl rfl rfl ?_
    refine z_iload (q := 114) (i := 6) (x := x6) dX13_beginner_112 rfl rfl ?_
    refine z_iconst (q := 115) (v := 1) dX13_beginner_114 rfl rfl ?_
    refine z_iload (q := 117) (i := 5) (x := x5) dX13_beginner_115 rfl rfl ?_
    refine z_isub (q := 118) dX13_beginner_117 rfl ?_
    have hk : z_V l G m_X13_beginner (z_Fm G m_X13_beginner Q) 0 0 h 126 [some (.ref a0), some (.int x1), some (.int v_1), some (.int x3), some (.int x4), some (.int x5), some (.int x6)] [.int (if x6 = (1 - x5) then 1 else 0), .int x3] := by
      refine z_iadd (q := 127) dX13_beginner_126 rfl ?_
      refine z_nmI (fun v_3 hv_4 => ?_)
      have hf := hf v_3 hv_4
      refine z_istore_n (q := 128) (i := 3) (ls2 := [some (.ref a0), some (.int x1), some (.int v_1), some (.int v_3), some (.int x4), some (.int x5), some (.int x6)]) (x := v_3) dX13_beginner_127 rfl (z_lt rfl) rfl rfl ?_
      refine z_iinc (q := 131) (i := 5) (x := x5) (v := (x5 + 1)) (ls2 := [some (.ref a0), some (.int x1), some (.int v_1), some (.int v_3), some (.int x4), some (.int (x5 + 1)), some (.int x6)]) dX13_beginner_128 rfl rfl (z_lt rfl) rfl rfl ?_
      refine z_goto (q := 42) dX13_beginner_131 rfl ?_
      refine z_prune [true, true, true, true, true, true, false] (ls2 := [some (.ref a0), some (.int x1), some (.int v_1), some (.int v_3), some (.int x4), some (.int (x5 + 1)), none]) rfl ?_
      exact hf
    refine z_icmp_ne (q := 121) (tgt := 125) dX13_beginner_118 rfl rfl (fun hc => ?_) (fun hc => ?_)
    · have hk := (z_ite hk).2 hc
      refine z_iconst (q := 126) (v := 0) dX13_beginner_125 rfl rfl ?_
      exact hk
    · have hk := (z_ite hk).1 hc
      refine z_iconst (q := 122) (v := 1) dX13_beginner_121 rfl rfl ?_
      refine z_goto (q := 126) dX13_beginner_122 rfl ?_
      exact hk
  refine z_icmp_ne (q := 104) (tgt := 108) dX13_beginner_101 rfl rfl (fun hc => ?_) (fun hc => ?_)
  · have hk := (z_ite hk).2 hc
    refine z_iconst (q := 109) (v := 0) dX13_beginner_108 rfl rfl ?_
    exact hk
  · have hk := (z_ite hk).1 hc
    refine z_iconst (q := 105) (v := 1) dX13_beginner_104 rfl rfl ?_
    refine z_goto (q := 109) dX13_beginner_105 rfl ?_
    exact hk

theorem u_X13_begins {l : Launch} {G : z_G} {a0 : Nat} {x1 : Int32} {h : z_H} {Q : z_Q} (hst : l.stackTraces = false)  (hf : z_V l G m_X13_begins (z_Fm G m_X13_begins Q) 0 0 h 2 [some (.ref a0), some (.int x1), some (.int 0), none] []) : z_Ct l G m_X13_begins [.ref a0, .int x1] h Q := by
  refine z_Ct.of (ls := [some (.ref a0), some (.int x1), none, none]) hst rfl (by show plainName yX13_begins.cls = true; decide +kernel) (z_le rfl) rfl ?_
  show z_V l G m_X13_begins (z_Fm G m_X13_begins Q) 0 0 h 0 [some (.ref a0), some (.int x1), none, none] []
  refine z_iconst (q := 1) (v := 0) dX13_begins_0 rfl rfl ?_
  refine z_istore_n (q := 2) (i := 2) (ls2 := [some (.ref a0), some (.int x1), some (.int 0), none]) (x := 0) dX13_begins_1 rfl (z_lt rfl) rfl rfl ?_
  exact hf

theorem b_X13_begins_2 {l : Launch} {G : z_G} {a0 : Nat} {x1 : Int32} {x2 : Int32} {h : z_H} {Q : z_Q}  (hf : (15 ≤ x2 → z_L11 h a0 ∧ vp_in (x1 + 18) 16560 ∧ vp_in 2 420 ∧ vp_in (x1 + 3) 16560 ∧ vp_in (x1 + 8) 16560 ∧ vp_in (x1 + 5) 16560 ∧ vp_in (x1 + 9) 16560 ∧ z_V l G m_X13_begins (z_Fm G m_X13_begins Q) 0 0 (((((h.sI (a0 + 16) (Int32.toNatClampNeg (x1 + 18)) 0).sI (a0 + 16) (Int32.toNatClampNeg (x1 + 3)) (h.I (a0 + 6) (Int32.toNatClampNeg 2))).sI (a0 + 16) (Int32.toNatClampNeg (x1 + 8)) (-1)).sI (a0 + 16) (Int32.toNatClampNeg (x1 + 5)) (-1)).sI (a0 + 16) (Int32.toNatClampNeg (x1 + 9)) 100) 79 [some (.ref a0), some (.int x1), some (.int 0), none] []) ∧ (¬ 15 ≤ x2 → z_L11 h a0 ∧ vp_in (x1 + x2) 16560 ∧ z_V l G m_X13_begins (z_Fm G m_X13_begins Q) 0 0 (h.sI (a0 + 16) (Int32.toNatClampNeg (x1 + x2)) 0) 2 [some (.ref a0), some (.int x1), some (.int (x2 + 1)), none] [])) : z_V l G m_X13_begins (z_Fm G m_X13_begins Q) 0 0 h 2 [some (.ref a0), some (.int x1), some (.int x2), none] [] := by
  refine z_iload_n (q := 3) (i := 2) (x := x2) dX13_begins_2 rfl rfl rfl ?_
  refine z_bipush (q := 5) (v := 15) dX13_begins_3 (by decide) rfl ?_
  refine z_icmp_ge (q := 8) (tgt := 23) dX13_begins_5 rfl rfl (fun hc => ?_) (fun hc => ?_)
  · have hf := hf.1 hc
    refine z_aload_n (q := 24) (i := 0) (x := a0) dX13_begins_23 rfl rfl rfl ?_
    obtain ⟨g_1, hf⟩ := hf
    refine z_get 11 22 (q := 27) (v := .ref (a0 + 16)) rfl (z_lt rfl) (z_L11_T g_1) q1780 dX13_begins_24 rfl (z_fvR (fun _ _ _ => rfl) (z_L11_P22 g_1)) ?_
    refine z_iload_n (q := 28) (i := 1) (x := x1) dX13_begins_27 rfl rfl rfl ?_
    refine z_bipush (q := 30) (v := 18) dX13_begins_28 (by decide) rfl ?_
    refine z_iadd (q := 31) dX13_begins_30 rfl ?_
    refine z_iconst (q := 32) (v := 0) dX13_begins_31 rfl rfl ?_
    obtain ⟨g_2, hf⟩ := hf
    refine z_iast (q := 33) (n := 16560) (z_L11_A22 g_1) g_2 dX13_begins_32 rfl ?_
    refine z_aload_n (q := 34) (i := 0) (x := a0) dX13_begins_33 rfl rfl rfl ?_
    refine z_get 11 22 (q := 37) (v := .ref (a0 + 16)) rfl (z_lt rfl) (z_L11_T g_1) q1780 dX13_begins_34 rfl (z_fvR (fun _ _ _ => rfl) (z_L11_P22 g_1)) ?_
    refine z_iload_n (q := 38) (i := 1) (x := x1) dX13_begins_37 rfl rfl rfl ?_
    refine z_iconst (q := 39) (v := 3) dX13_begins_38 rfl rfl ?_
    refine z_iadd (q := 40) dX13_begins_39 rfl ?_
    refine z_aload_n (q := 41) (i := 0) (x := a0) dX13_begins_40 rfl rfl rfl ?_
    refine z_get 11 10 (q := 44) (v := .ref (a0 + 6)) rfl (z_lt rfl) (z_L11_T g_1) q1768 dX13_begins_41 rfl (z_fvR (fun _ _ _ => rfl) (z_L11_P10 g_1)) ?_
    refine z_iconst (q := 45) (v := 2) dX13_begins_44 rfl rfl ?_
    obtain ⟨g_3, hf⟩ := hf
    refine z_iald (q := 46) (n := 420) (z_L11_A10 g_1) g_3 dX13_begins_45 rfl ?_
    refine z_topI (z_rIa (by omega)) ?_
    obtain ⟨g_4, hf⟩ := hf
    refine z_iast (q := 47) (n := 16560) (z_L11_A22 g_1) g_4 dX13_begins_46 rfl ?_
    refine z_aload_n (q := 48) (i := 0) (x := a0) dX13_begins_47 rfl rfl rfl ?_
    refine z_get 11 22 (q := 51) (v := .ref (a0 + 16)) rfl (z_lt rfl) (z_L11_T g_1) q1780 dX13_begins_48 rfl (z_fvR (fun _ _ _ => rfl) (z_L11_P22 g_1)) ?_
    refine z_iload_n (q := 52) (i := 1) (x := x1) dX13_begins_51 rfl rfl rfl ?_
    refine z_bipush (q := 54) (v := 8) dX13_begins_52 (by decide) rfl ?_
    refine z_iadd (q := 55) dX13_begins_54 rfl ?_
    refine z_iconst (q := 56) (v := (-1)) dX13_begins_55 rfl rfl ?_
    obtain ⟨g_5, hf⟩ := hf
    refine z_iast (q := 57) (n := 16560) (z_L11_A22 g_1) g_5 dX13_begins_56 rfl ?_
    refine z_aload_n (q := 58) (i := 0) (x := a0) dX13_begins_57 rfl rfl rfl ?_
    refine z_get 11 22 (q := 61) (v := .ref (a0 + 16)) rfl (z_lt rfl) (z_L11_T g_1) q1780 dX13_begins_58 rfl (z_fvR (fun _ _ _ => rfl) (z_L11_P22 g_1)) ?_
    refine z_iload_n (q := 62) (i := 1) (x := x1) dX13_begins_61 rfl rfl rfl ?_
    refine z_iconst (q := 63) (v := 5) dX13_begins_62 rfl rfl ?_
    refine z_iadd (q := 64) dX13_begins_63 rfl ?_
    refine z_iconst (q := 65) (v := (-1)) dX13_begins_64 rfl rfl ?_
    obtain ⟨g_6, hf⟩ := hf
    refine z_iast (q := 66) (n := 16560) (z_L11_A22 g_1) g_6 dX13_begins_65 rfl ?_
    refine z_aload_n (q := 67) (i := 0) (x := a0) dX13_begins_66 rfl rfl rfl ?_
    refine z_get 11 22 (q := 70) (v := .ref (a0 + 16)) rfl (z_lt rfl) (z_L11_T g_1) q1780 dX13_begins_67 rfl (z_fvR (fun _ _ _ => rfl) (z_L11_P22 g_1)) ?_
    refine z_iload_n (q := 71) (i := 1) (x := x1) dX13_begins_70 rfl rfl rfl ?_
    refine z_bipush (q := 73) (v := 9) dX13_begins_71 (by decide) rfl ?_
    refine z_iadd (q := 74) dX13_begins_73 rfl ?_
    refine z_bipush (q := 76) (v := 100) dX13_begins_74 (by decide) rfl ?_
    obtain ⟨g_7, hf⟩ := hf
    refine z_iast (q := 77) (n := 16560) (z_L11_A22 g_1) g_7 dX13_begins_76 rfl ?_
    refine z_iconst (q := 78) (v := 0) dX13_begins_77 rfl rfl ?_
    refine z_istore_n (q := 79) (i := 2) (ls2 := [some (.ref a0), some (.int x1), some (.int 0), none]) (x := 0) dX13_begins_78 rfl (z_lt rfl) rfl rfl ?_
    exact hf
  · have hf := hf.2 hc
    refine z_aload_n (q := 9) (i := 0) (x := a0) dX13_begins_8 rfl rfl rfl ?_
    obtain ⟨g_8, hf⟩ := hf
    refine z_get 11 22 (q := 12) (v := .ref (a0 + 16)) rfl (z_lt rfl) (z_L11_T g_8) q1780 dX13_begins_9 rfl (z_fvR (fun _ _ _ => rfl) (z_L11_P22 g_8)) ?_
    refine z_iload_n (q := 13) (i := 1) (x := x1) dX13_begins_12 rfl rfl rfl ?_
    refine z_iload_n (q := 14) (i := 2) (x := x2) dX13_begins_13 rfl rfl rfl ?_
    refine z_iadd (q := 15) dX13_begins_14 rfl ?_
    refine z_iconst (q := 16) (v := 0) dX13_begins_15 rfl rfl ?_
    obtain ⟨g_9, hf⟩ := hf
    refine z_iast (q := 17) (n := 16560) (z_L11_A22 g_8) g_9 dX13_begins_16 rfl ?_
    refine z_iinc (q := 20) (i := 2) (x := x2) (v := (x2 + 1)) (ls2 := [some (.ref a0), some (.int x1), some (.int (x2 + 1)), none]) dX13_begins_17 rfl rfl (z_lt rfl) rfl rfl ?_
    refine z_goto (q := 2) dX13_begins_20 rfl ?_
    exact hf

theorem b_X13_begins_79 {l : Launch} {G : z_G} {a0 : Nat} {x1 : Int32} {x2 : Int32} {h : z_H} {Q : z_Q}  (hf : (2 ≤ x2 → Q none h) ∧ (¬ 2 ≤ x2 → z_L11 h a0 ∧ vp_in ((x1 + 16) + x2) 16560 ∧ vp_in ((x1 + 0) + x2) 16560 ∧ z_V l G m_X13_begins (z_Fm G m_X13_begins Q) 0 0 (h.sI (a0 + 16) (Int32.toNatClampNeg ((x1 + 0) + x2)) (h.I (a0 + 16) (Int32.toNatClampNeg ((x1 + 16) + x2)))) 107 [some (.ref a0), some (.int x1), some (.int x2), some (.int 0)] [])) : z_V l G m_X13_begins (z_Fm G m_X13_begins Q) 0 0 h 79 [some (.ref a0), some (.int x1), some (.int x2), none] [] := by
  refine z_iload_n (q := 80) (i := 2) (x := x2) dX13_begins_79 rfl rfl rfl ?_
  refine z_iconst (q := 81) (v := 2) dX13_begins_80 rfl rfl ?_
  refine z_icmp_ge (q := 84) (tgt := 170) dX13_begins_81 rfl rfl (fun hc => ?_) (fun hc => ?_)
  · have hf := hf.1 hc
    exact z_vret dX13_begins_170 rfl hf
  · have hf := hf.2 hc
    refine z_aload_n (q := 85) (i := 0) (x := a0) dX13_begins_84 rfl rfl rfl ?_
    obtain ⟨g_1, hf⟩ := hf
    refine z_get 11 22 (q := 88) (v := .ref (a0 + 16)) rfl (z_lt rfl) (z_L11_T g_1) q1780 dX13_begins_85 rfl (z_fvR (fun _ _ _ => rfl) (z_L11_P22 g_1)) ?_
    refine z_iload_n (q := 89) (i := 1) (x := x1) dX13_begins_88 rfl rfl rfl ?_
    refine z_iconst (q := 90) (v := 0) dX13_begins_89 rfl rfl ?_
    refine z_iadd (q := 91) dX13_begins_90 rfl ?_
    refine z_iload_n (q := 92) (i := 2) (x := x2) dX13_begins_91 rfl rfl rfl ?_
    refine z_iadd (q := 93) dX13_begins_92 rfl ?_
    refine z_aload_n (q := 94) (i := 0) (x := a0) dX13_begins_93 rfl rfl rfl ?_
    refine z_get 11 22 (q := 97) (v := .ref (a0 + 16)) rfl (z_lt rfl) (z_L11_T g_1) q1780 dX13_begins_94 rfl (z_fvR (fun _ _ _ => rfl) (z_L11_P22 g_1)) ?_
    refine z_iload_n (q := 98) (i := 1) (x := x1) dX13_begins_97 rfl rfl rfl ?_
    refine z_bipush (q := 100) (v := 16) dX13_begins_98 (by decide) rfl ?_
    refine z_iadd (q := 101) dX13_begins_100 rfl ?_
    refine z_iload_n (q := 102) (i := 2) (x := x2) dX13_begins_101 rfl rfl rfl ?_
    refine z_iadd (q := 103) dX13_begins_102 rfl ?_
    obtain ⟨g_2, hf⟩ := hf
    refine z_iald (q := 104) (n := 16560) (z_L11_A22 g_1) g_2 dX13_begins_103 rfl ?_
    obtain ⟨g_3, hf⟩ := hf
    refine z_iast (q := 105) (n := 16560) (z_L11_A22 g_1) g_3 dX13_begins_104 rfl ?_
    refine z_iconst (q := 106) (v := 0) dX13_begins_105 rfl rfl ?_
    refine z_istore_n (q := 107) (i := 3) (ls2 := [some (.ref a0), some (.int x1), some (.int x2), some (.int 0)]) (x := 0) dX13_begins_106 rfl (z_lt rfl) rfl rfl ?_
    exact hf

theorem b_X13_begins_107 {l : Launch} {G : z_G} {a0 : Nat} {x1 : Int32} {x2 : Int32} {x3 : Int32} {h : z_H} {Q : z_Q}  (hf : z_L11 h a0 ∧ vp_in ((x1 + 16) + x2) 16560 ∧ ((h.I (a0 + 16) (Int32.toNatClampNeg ((x1 + 16) + x2))) ≤ x3 → z_V l G m_X13_begins (z_Fm G m_X13_begins Q) 0 0 h 79 [some (.ref a0), some (.int x1), some (.int (x2 + 1)), none] []) ∧ (¬ (h.I (a0 + 16) (Int32.toNatClampNeg ((x1 + 16) + x2))) ≤ x3 → vp_in (((x1 + 212) + (24 * x2)) + x3) 16560 ∧ vp_in (((x1 + 20) + (48 * x2)) + x3) 16560 ∧ z_V l G m_X13_begins (z_Fm G m_X13_begins Q) 0 0 (h.sI (a0 + 16) (Int32.toNatClampNeg (((x1 + 20) + (48 * x2)) + x3)) (8 + (h.I (a0 + 16) (Int32.toNatClampNeg (((x1 + 212) + (24 * x2)) + x3))))) 107 [some (.ref a0), some (.int x1), some (.int x2), some (.int (x3 + 1))] [])) : z_V l G m_X13_begins (z_Fm G m_X13_begins Q) 0 0 h 107 [some (.ref a0), some (.int x1), some (.int x2), some (.int x3)] [] := by
  refine z_iload_n (q := 108) (i := 3) (x := x3) dX13_begins_107 rfl rfl rfl ?_
  refine z_aload_n (q := 109) (i := 0) (x := a0) dX13_begins_108 rfl rfl rfl ?_
  obtain ⟨g_1, hf⟩ := hf
  refine z_get 11 22 (q := 112) (v := .ref (a0 + 16)) rfl (z_lt rfl) (z_L11_T g_1) q1780 dX13_begins_109 rfl (z_fvR (fun _ _ _ => rfl) (z_L11_P22 g_1)) ?_
  refine z_iload_n (q := 113) (i := 1) (x := x1) dX13_begins_112 rfl rfl rfl ?_
  refine z_bipush (q := 115) (v := 16) dX13_begins_113 (by decide) rfl ?_
  refine z_iadd (q := 116) dX13_begins_115 rfl ?_
  refine z_iload_n (q := 117) (i := 2) (x := x2) dX13_begins_116 rfl rfl rfl ?_
  refine z_iadd (q := 118) dX13_begins_117 rfl ?_
  obtain ⟨g_2, hf⟩ := hf
  refine z_iald (q := 119) (n := 16560) (z_L11_A22 g_1) g_2 dX13_begins_118 rfl ?_
  refine z_icmp_ge (q := 122) (tgt := 164) dX13_begins_119 rfl rfl (fun hc => ?_) (fun hc => ?_)
  · have hf := hf.1 hc
    refine z_iinc (q := 167) (i := 2) (x := x2) (v := (x2 + 1)) (ls2 := [some (.ref a0), some (.int x1), some (.int (x2 + 1)), some (.int x3)]) dX13_begins_164 rfl rfl (z_lt rfl) rfl rfl ?_
    refine z_goto (q := 79) dX13_begins_167 rfl ?_
    refine z_prune [true, true, true, false] (ls2 := [some (.ref a0), some (.int x1), some (.int (x2 + 1)), none]) rfl ?_
    exact hf
  · have hf := hf.2 hc
    refine z_aload_n (q := 123) (i := 0) (x := a0) dX13_begins_122 rfl rfl rfl ?_
    refine z_get 11 22 (q := 126) (v := .ref (a0 + 16)) rfl (z_lt rfl) (z_L11_T g_1) q1780 dX13_begins_123 rfl (z_fvR (fun _ _ _ => rfl) (z_L11_P22 g_1)) ?_
    refine z_iload_n (q := 127) (i := 1) (x := x1) dX13_begins_126 rfl rfl rfl ?_
    refine z_bipush (q := 129) (v := 20) dX13_begins_127 (by decide) rfl ?_
    refine z_iadd (q := 130) dX13_begins_129 rfl ?_
    refine z_bipush (q := 132) (v := 48) dX13_begins_130 (by decide) rfl ?_
    refine z_iload_n (q := 133) (i := 2) (x := x2) dX13_begins_132 rfl rfl rfl ?_
    refine z_imul (q := 134) dX13_begins_133 rfl ?_
    refine z_iadd (q := 135) dX13_begins_134 rfl ?_
    refine z_iload_n (q := 136) (i := 3) (x := x3) dX13_begins_135 rfl rfl rfl ?_
    refine z_iadd (q := 137) dX13_begins_136 rfl ?_
    refine z_bipush (q := 139) (v := 8) dX13_begins_137 (by decide) rfl ?_
    refine z_aload_n (q := 140) (i := 0) (x := a0) dX13_begins_139 rfl rfl rfl ?_
    refine z_get 11 22 (q := 143) (v := .ref (a0 + 16)) rfl (z_lt rfl) (z_L11_T g_1) q1780 dX13_begins_140 rfl (z_fvR (fun _ _ _ => rfl) (z_L11_P22 g_1)) ?_
    refine z_iload_n (q := 144) (i := 1) (x := x1) dX13_begins_143 rfl rfl rfl ?_
    refine z_sipush (q := 147) (v := 212) dX13_begins_144 (by decide) rfl ?_
    refine z_iadd (q := 148) dX13_begins_147 rfl ?_
    refine z_bipush (q := 150) (v := 24) dX13_begins_148 (by decide) rfl ?_
    refine z_iload_n (q := 151) (i := 2) (x := x2) dX13_begins_150 rfl rfl rfl ?_
    refine z_imul (q := 152) dX13_begins_151 rfl ?_
    refine z_iadd (q := 153) dX13_begins_152 rfl ?_
    refine z_iload_n (q := 154) (i := 3) (x := x3) dX13_begins_153 rfl rfl rfl ?_
    refine z_iadd (q := 155) dX13_begins_154 rfl ?_
    obtain ⟨g_3, hf⟩ := hf
    refine z_iald (q := 156) (n := 16560) (z_L11_A22 g_1) g_3 dX13_begins_155 rfl ?_
    refine z_iadd (q := 157) dX13_begins_156 rfl ?_
    obtain ⟨g_4, hf⟩ := hf
    refine z_iast (q := 158) (n := 16560) (z_L11_A22 g_1) g_4 dX13_begins_157 rfl ?_
    refine z_iinc (q := 161) (i := 3) (x := x3) (v := (x3 + 1)) (ls2 := [some (.ref a0), some (.int x1), some (.int x2), some (.int (x3 + 1))]) dX13_begins_158 rfl rfl (z_lt rfl) rfl rfl ?_
    refine z_goto (q := 107) dX13_begins_161 rfl ?_
    exact hf

theorem u_X13_bet {l : Launch} {G : z_G} {a0 : Nat} {x1 : Int32} {x2 : Int32} {h : z_H} {Q : z_Q} (hst : l.stackTraces = false)  (hf : z_L11 h a0 ∧ z_Ct l G m_X13_isSide [.int x1] (h.sI a0 0 0) (z_Qi (fun x_2 h_3 => (x_2 = 0 → Q (some (.int (-1))) h_3) ∧ (¬ x_2 = 0 → z_L11 h_3 a0 ∧ vp_in 9 16560 ∧ z_Ct l G m_X13_within [.int x2, .int 1, .int (h_3.I (a0 + 16) (Int32.toNatClampNeg 9))] h_3 (z_Qi (fun x_6 h_7 => (x_6 = 0 → Q (some (.int (-1))) h_7) ∧ (¬ x_6 = 0 → z_L11 h_7 a0 ∧ vp_in 8 16560 ∧ (0 ≤ (h_7.I (a0 + 16) (Int32.toNatClampNeg 8)) → Q (some (.int (-1))) h_7) ∧ (¬ 0 ≤ (h_7.I (a0 + 16) (Int32.toNatClampNeg 8)) → vp_in 10 16560 ∧ ((h_7.I (a0 + 16) (Int32.toNatClampNeg 10)) = 8 → Q (some (.int (-1))) h_7) ∧ (¬ (h_7.I (a0 + 16) (Int32.toNatClampNeg 10)) = 8 → z_Ct l G m_X13_keeps [.ref a0] h_7 (z_Qv (fun h_11 => z_L11 h_11 a0 ∧ vp_in 10 16560 ∧ ∀ v_14 : Int32, v_14 = (420 + (3 * (h_11.I (a0 + 16) (Int32.toNatClampNeg 10)))) → vp_in v_14 16560 ∧ vp_in (v_14 + 1) 16560 ∧ z_Ct l G m_X13_offerNow [.ref a0] ((h_11.sI (a0 + 16) (Int32.toNatClampNeg v_14) x1).sI (a0 + 16) (Int32.toNatClampNeg (v_14 + 1)) x2) (z_Qi (fun x_18 h_19 => ∃ n_20, h_19.T (a0 + 16) = (1, n_20) ∧ vp_in (v_14 + 2) n_20 ∧ z_L11 h_19 a0 ∧ vp_in 10 16560 ∧ vp_in 10 16560 ∧ vp_in 9 16560 ∧ vp_in 9 16560 ∧ vp_in 9 16560 ∧ Q (some (.int ((((h_19.sI (a0 + 16) (Int32.toNatClampNeg (v_14 + 2)) x_18).sI (a0 + 16) (Int32.toNatClampNeg 10) (((h_19.sI (a0 + 16) (Int32.toNatClampNeg (v_14 + 2)) x_18).I (a0 + 16) (Int32.toNatClampNeg 10)) + 1)).I (a0 + 16) (Int32.toNatClampNeg 9)) - x2))) (((h_19.sI (a0 + 16) (Int32.toNatClampNeg (v_14 + 2)) x_18).sI (a0 + 16) (Int32.toNatClampNeg 10) (((h_19.sI (a0 + 16) (Int32.toNatClampNeg (v_14 + 2)) x_18).I (a0 + 16) (Int32.toNatClampNeg 10)) + 1)).sI (a0 + 16) (Int32.toNatClampNeg 9) ((((h_19.sI (a0 + 16) (Int32.toNatClampNeg (v_14 + 2)) x_18).sI (a0 + 16) (Int32.toNatClampNeg 10) (((h_19.sI (a0 + 16) (Int32.toNatClampNeg (v_14 + 2)) x_18).I (a0 + 16) (Int32.toNatClampNeg 10)) + 1)).I (a0 + 16) (Int32.toNatClampNeg 9)) - x2))))))))))))))) : z_Ct l G m_X13_bet [.ref a0, .int x1, .int x2] h Q := by
  refine z_Ct.of (ls := [some (.ref a0), some (.int x1), some (.int x2), none]) hst rfl (by show plainName yX13_bet.cls = true; decide +kernel) (z_le rfl) rfl ?_
  show z_V l G m_X13_bet (z_Fm G m_X13_bet Q) 0 0 h 0 [some (.ref a0), some (.int x1), some (.int x2), none] []
  refine z_aload_n (q := 1) (i := 0) (x := a0) dX13_bet_0 rfl rfl rfl ?_
  refine z_iconst (q := 2) (v := 0) dX13_bet_1 rfl rfl ?_
  obtain ⟨g_1, hf⟩ := hf
  refine z_putI 11 0 (q := 5) (x := 0) (v := .int 0) rfl (z_lt rfl) (z_L11_T g_1) q1758 rfl dX13_bet_2 rfl rfl rfl rfl (fun _ _ _ => rfl) ?_
  refine z_iload_n (q := 6) (i := 1) (x := x1) dX13_bet_5 rfl rfl rfl ?_
  refine z_cSi m_X13_isSide [.int x1] (q := 9) (rc2 := 0) (rs2 := 0) (st := []) dX13_bet_6 rfl q2085 oS_X13_isSide rfl rfl ⟨z_le rfl, z_le rfl⟩ (z_le rfl) rfl  rfl hf (fun x_2 h_3 hf => ?_)
  refine z_if_eq (q := 12) (tgt := 49) dX13_bet_9 rfl rfl (fun hc => ?_) (fun hc => ?_)
  · have hf := hf.1 hc
    refine z_iconst (q := 50) (v := (-1)) dX13_bet_49 rfl rfl ?_
    exact z_iret dX13_bet_50 rfl hf
  · have hf := hf.2 hc
    refine z_iload_n (q := 13) (i := 2) (x := x2) dX13_bet_12 rfl rfl rfl ?_
    refine z_iconst (q := 14) (v := 1) dX13_bet_13 rfl rfl ?_
    refine z_aload_n (q := 15) (i := 0) (x := a0) dX13_bet_14 rfl rfl rfl ?_
    obtain ⟨g_4, hf⟩ := hf
    refine z_get 11 22 (q := 18) (v := .ref (a0 + 16)) rfl (z_lt rfl) (z_L11_T g_4) q1780 dX13_bet_15 rfl (z_fvR (fun _ _ _ => rfl) (z_L11_P22 g_4)) ?_
    refine z_bipush (q := 20) (v := 9) dX13_bet_18 (by decide) rfl ?_
    obtain ⟨g_5, hf⟩ := hf
    refine z_iald (q := 21) (n := 16560) (z_L11_A22 g_4) g_5 dX13_bet_20 rfl ?_
    refine z_cSi m_X13_within [.int x2, .int 1, .int (h_3.I (a0 + 16) (Int32.toNatClampNeg 9))] (q := 24) (rc2 := 0) (rs2 := 0) (st := []) dX13_bet_21 rfl q2074 oS_X13_within rfl rfl ⟨z_le rfl, z_le rfl⟩ (z_le rfl) rfl  rfl hf (fun x_6 h_7 hf => ?_)
    refine z_if_eq (q := 27) (tgt := 49) dX13_bet_24 rfl rfl (fun hc => ?_) (fun hc => ?_)
    · have hf := hf.1 hc
      refine z_iconst (q := 50) (v := (-1)) dX13_bet_49 rfl rfl ?_
      exact z_iret dX13_bet_50 rfl hf
    · have hf := hf.2 hc
      refine z_aload_n (q := 28) (i := 0) (x := a0) dX13_bet_27 rfl rfl rfl ?_
      obtain ⟨g_8, hf⟩ := hf
      refine z_get 11 22 (q := 31) (v := .ref (a0 + 16)) rfl (z_lt rfl) (z_L11_T g_8) q1780 dX13_bet_28 rfl (z_fvR (fun _ _ _ => rfl) (z_L11_P22 g_8)) ?_
      refine z_bipush (q := 33) (v := 8) dX13_bet_31 (by decide) rfl ?_
      obtain ⟨g_9, hf⟩ := hf
      refine z_iald (q := 34) (n := 16560) (z_L11_A22 g_8) g_9 dX13_bet_33 rfl ?_
      refine z_if_ge (q := 37) (tgt := 49) dX13_bet_34 rfl rfl (fun hc => ?_) (fun hc => ?_)
      · have hf := hf.1 hc
        refine z_iconst (q := 50) (v := (-1)) dX13_bet_49 rfl rfl ?_
        exact z_iret dX13_bet_50 rfl hf
      · have hf := hf.2 hc
        refine z_aload_n (q := 38) (i := 0) (x := a0) dX13_bet_37 rfl rfl rfl ?_
        refine z_get 11 22 (q := 41) (v := .ref (a0 + 16)) rfl (z_lt rfl) (z_L11_T g_8) q1780 dX13_bet_38 rfl (z_fvR (fun _ _ _ => rfl) (z_L11_P22 g_8)) ?_
        refine z_bipush (q := 43) (v := 10) dX13_bet_41 (by decide) rfl ?_
        obtain ⟨g_10, hf⟩ := hf
        refine z_iald (q := 44) (n := 16560) (z_L11_A22 g_8) g_10 dX13_bet_43 rfl ?_
        refine z_bipush (q := 46) (v := 8) dX13_bet_44 (by decide) rfl ?_
        refine z_icmp_ne (q := 49) (tgt := 51) dX13_bet_46 rfl rfl (fun hc => ?_) (fun hc => ?_)
        · have hf := hf.2 hc
          refine z_aload_n (q := 52) (i := 0) (x := a0) dX13_bet_51 rfl rfl rfl ?_
          refine z_cVv m_X13_keeps [] (a0) (q := 55) (rc2 := 0) (rs2 := 0) (st := []) dX13_bet_52 rfl q2100 oV_X13_keeps rfl rfl ⟨z_le rfl, z_le rfl⟩ (z_le rfl) (z_rcv_of 11 rfl (z_L11_T g_8) rfl) rfl  rfl hf (fun h_11 hf => ?_)
          refine z_sipush (q := 58) (v := 420) dX13_bet_55 (by decide) rfl ?_
          refine z_iconst (q := 59) (v := 3) dX13_bet_58 rfl rfl ?_
          refine z_aload_n (q := 60) (i := 0) (x := a0) dX13_bet_59 rfl rfl rfl ?_
          obtain ⟨g_12, hf⟩ := hf
          refine z_get 11 22 (q := 63) (v := .ref (a0 + 16)) rfl (z_lt rfl) (z_L11_T g_12) q1780 dX13_bet_60 rfl (z_fvR (fun _ _ _ => rfl) (z_L11_P22 g_12)) ?_
          refine z_bipush (q := 65) (v := 10) dX13_bet_63 (by decide) rfl ?_
          obtain ⟨g_13, hf⟩ := hf
          refine z_iald (q := 66) (n := 16560) (z_L11_A22 g_12) g_13 dX13_bet_65 rfl ?_
          refine z_imul (q := 67) dX13_bet_66 rfl ?_
          refine z_iadd (q := 68) dX13_bet_67 rfl ?_
          refine z_nmI (fun v_14 hv_15 => ?_)
          have hf := hf v_14 hv_15
          refine z_istore_n (q := 69) (i := 3) (ls2 := [some (.ref a0), some (.int x1), some (.int x2), some (.int v_14)]) (x := v_14) dX13_bet_68 rfl (z_lt rfl) rfl rfl ?_
          refine z_aload_n (q := 70) (i := 0) (x := a0) dX13_bet_69 rfl rfl rfl ?_
          refine z_get 11 22 (q := 73) (v := .ref (a0 + 16)) rfl (z_lt rfl) (z_L11_T g_12) q1780 dX13_bet_70 rfl (z_fvR (fun _ _ _ => rfl) (z_L11_P22 g_12)) ?_
          refine z_iload_n (q := 74) (i := 3) (x := v_14) dX13_bet_73 rfl rfl rfl ?_
          refine z_iload_n (q := 75) (i := 1) (x := x1) dX13_bet_74 rfl rfl rfl ?_
          obtain ⟨g_16, hf⟩ := hf
          refine z_iast (q := 76) (n := 16560) (z_L11_A22 g_12) g_16 dX13_bet_75 rfl ?_
          refine z_aload_n (q := 77) (i := 0) (x := a0) dX13_bet_76 rfl rfl rfl ?_
          refine z_get 11 22 (q := 80) (v := .ref (a0 + 16)) rfl (z_lt rfl) (z_L11_T g_12) q1780 dX13_bet_77 rfl (z_fvR (fun _ _ _ => rfl) (z_L11_P22 g_12)) ?_
          refine z_iload_n (q := 81) (i := 3) (x := v_14) dX13_bet_80 rfl rfl rfl ?_
          refine z_iconst (q := 82) (v := 1) dX13_bet_81 rfl rfl ?_
          refine z_iadd (q := 83) dX13_bet_82 rfl ?_
          refine z_iload_n (q := 84) (i := 2) (x := x2) dX13_bet_83 rfl rfl rfl ?_
          obtain ⟨g_17, hf⟩ := hf
          refine z_iast (q := 85) (n := 16560) (z_L11_A22 g_12) g_17 dX13_bet_84 rfl ?_
          refine z_aload_n (q := 86) (i := 0) (x := a0) dX13_bet_85 rfl rfl rfl ?_
          refine z_get 11 22 (q := 89) (v := .ref (a0 + 16)) rfl (z_lt rfl) (z_L11_T g_12) q1780 dX13_bet_86 rfl (z_fvR (fun _ _ _ => rfl) (z_L11_P22 g_12)) ?_
          refine z_iload_n (q := 90) (i := 3) (x := v_14) dX13_bet_89 rfl rfl rfl ?_
          refine z_iconst (q := 91) (v := 2) dX13_bet_90 rfl rfl ?_
          refine z_iadd (q := 92) dX13_bet_91 rfl ?_
          refine z_aload_n (q := 93) (i := 0) (x := a0) dX13_bet_92 rfl rfl rfl ?_
          refine z_cVi m_X13_offerNow [] (a0) (q := 96) (rc2 := 0) (rs2 := 0) (st := [.int (v_14 + 2), .ref (a0 + 16)]) dX13_bet_93 rfl q2258 oV_X13_offerNow rfl rfl ⟨z_le rfl, z_le rfl⟩ (z_le rfl) (z_rcv_of 11 rfl (z_L11_T g_12) rfl) rfl  rfl hf (fun x_18 h_19 hf => ?_)
          obtain ⟨n_20, g_21, hf⟩ := hf
          obtain ⟨g_22, hf⟩ := hf
          refine z_iast (q := 97) (n := n_20) g_21 g_22 dX13_bet_96 rfl ?_
          refine z_aload_n (q := 98) (i := 0) (x := a0) dX13_bet_97 rfl rfl rfl ?_
          obtain ⟨g_23, hf⟩ := hf
          refine z_get 11 22 (q := 101) (v := .ref (a0 + 16)) rfl (z_lt rfl) (z_L11_T g_23) q1780 dX13_bet_98 rfl (z_fvR (fun _ _ _ => rfl) (z_L11_P22 g_23)) ?_
          refine z_bipush (q := 103) (v := 10) dX13_bet_101 (by decide) rfl ?_
          refine z_dup2 (q := 104) dX13_bet_103 rfl rfl rfl ?_
          obtain ⟨g_24, hf⟩ := hf
          refine z_iald (q := 105) (n := 16560) (z_L11_A22 g_23) g_24 dX13_bet_104 rfl ?_
          refine z_iconst (q := 106) (v := 1) dX13_bet_105 rfl rfl ?_
          refine z_iadd (q := 107) dX13_bet_106 rfl ?_
          obtain ⟨g_25, hf⟩ := hf
          refine z_iast (q := 108) (n := 16560) (z_L11_A22 g_23) g_25 dX13_bet_107 rfl ?_
          refine z_aload_n (q := 109) (i := 0) (x := a0) dX13_bet_108 rfl rfl rfl ?_
          refine z_get 11 22 (q := 112) (v := .ref (a0 + 16)) rfl (z_lt rfl) (z_L11_T g_23) q1780 dX13_bet_109 rfl (z_fvR (fun _ _ _ => rfl) (z_L11_P22 g_23)) ?_
          refine z_bipush (q := 114) (v := 9) dX13_bet_112 (by decide) rfl ?_
          refine z_dup2 (q := 115) dX13_bet_114 rfl rfl rfl ?_
          obtain ⟨g_26, hf⟩ := hf
          refine z_iald (q := 116) (n := 16560) (z_L11_A22 g_23) g_26 dX13_bet_115 rfl ?_
          refine z_iload_n (q := 117) (i := 2) (x := x2) dX13_bet_116 rfl rfl rfl ?_
          refine z_isub (q := 118) dX13_bet_117 rfl ?_
          obtain ⟨g_27, hf⟩ := hf
          refine z_iast (q := 119) (n := 16560) (z_L11_A22 g_23) g_27 dX13_bet_118 rfl ?_
          refine z_aload_n (q := 120) (i := 0) (x := a0) dX13_bet_119 rfl rfl rfl ?_
          refine z_get 11 22 (q := 123) (v := .ref (a0 + 16)) rfl (z_lt rfl) (z_L11_T g_23) q1780 dX13_bet_120 rfl (z_fvR (fun _ _ _ => rfl) (z_L11_P22 g_23)) ?_
          refine z_bipush (q := 125) (v := 9) dX13_bet_123 (by decide) rfl ?_
          obtain ⟨g_28, hf⟩ := hf
          refine z_iald (q := 126) (n := 16560) (z_L11_A22 g_23) g_28 dX13_bet_125 rfl ?_
          refine z_topI z_rIs ?_
          exact z_iret dX13_bet_126 rfl hf
        · have hf := hf.1 hc
          refine z_iconst (q := 50) (v := (-1)) dX13_bet_49 rfl rfl ?_
          exact z_iret dX13_bet_50 rfl hf

theorem u_X13_book {l : Launch} {G : z_G} {a0 : Nat} {h : z_H} {Q : z_Q} (hst : l.stackTraces = false)  (hf : z_L11 h a0 ∧ z_Ct l G m_X13_cutAll [.ref a0] (h.sI a0 0 0) (z_Qv (fun h_2 => z_V l G m_X13_book (z_Fm G m_X13_book Q) 0 0 h_2 11 [some (.ref a0), some (.int 0), none] []))) : z_Ct l G m_X13_book [.ref a0] h Q := by
  refine z_Ct.of (ls := [some (.ref a0), none, none]) hst rfl (by show plainName yX13_book.cls = true; decide +kernel) (z_le rfl) rfl ?_
  show z_V l G m_X13_book (z_Fm G m_X13_book Q) 0 0 h 0 [some (.ref a0), none, none] []
  refine z_aload_n (q := 1) (i := 0) (x := a0) dX13_book_0 rfl rfl rfl ?_
  refine z_iconst (q := 2) (v := 0) dX13_book_1 rfl rfl ?_
  obtain ⟨g_1, hf⟩ := hf
  refine z_putI 11 0 (q := 5) (x := 0) (v := .int 0) rfl (z_lt rfl) (z_L11_T g_1) q1758 rfl dX13_book_2 rfl rfl rfl rfl (fun _ _ _ => rfl) ?_
  refine z_aload_n (q := 6) (i := 0) (x := a0) dX13_book_5 rfl rfl rfl ?_
  refine z_cVv m_X13_cutAll [] (a0) (q := 9) (rc2 := 0) (rs2 := 0) (st := []) dX13_book_6 rfl q1931 oV_X13_cutAll rfl rfl ⟨z_le rfl, z_le rfl⟩ (z_le rfl) (z_rcv_of 11 rfl (z_L11_T g_1) rfl) rfl  rfl hf (fun h_2 hf => ?_)
  refine z_iconst (q := 10) (v := 0) dX13_book_9 rfl rfl ?_
  refine z_istore_n (q := 11) (i := 1) (ls2 := [some (.ref a0), some (.int 0), none]) (x := 0) dX13_book_10 rfl (z_lt rfl) rfl rfl ?_
  exact hf

theorem b_X13_book_11 {l : Launch} {G : z_G} {a0 : Nat} {x1 : Int32} {h : z_H} {Q : z_Q}  (hf : z_L11 h a0 ∧ ((h.I a0 8) = 0 → vp_in (h.I a0 7) 1002 ∧ ((h.I (a0 + 2) (Int32.toNatClampNeg (h.I a0 7))) = 0 → ((h.I a0 8) ≤ 0 → vp_in 21 420 ∧ z_V l G m_X13_book (z_Fm G m_X13_book Q) 0 0 (h.sI (a0 + 6) (Int32.toNatClampNeg 21) x1) 117 [some (.ref a0), some (.int x1), some (.int 0)] []) ∧ (¬ (h.I a0 8) ≤ 0 → Q (some (.int (h.I a0 8))) h)) ∧ (¬ (h.I (a0 + 2) (Int32.toNatClampNeg (h.I a0 7))) = 0 → z_Ct l G m_X13_isWord [.ref a0, .int 15] h (z_Qi (fun x_5 h_6 => (x_5 = 0 → z_L11 h_6 a0 ∧ z_Ct l G m_X13_wrong [.ref a0, .int 1] h_6 (z_Qv (fun h_10 => z_V l G m_X13_book (z_Fm G m_X13_book Q) 0 0 h_10 58 [some (.ref a0), some (.int x1), none] []))) ∧ (¬ x_5 = 0 → (x1 = 12 → z_L11 h_6 a0 ∧ z_Ct l G m_X13_wrong [.ref a0, .int 5] h_6 (z_Qv (fun h_8 => z_V l G m_X13_book (z_Fm G m_X13_book Q) 0 0 h_8 58 [some (.ref a0), some (.int x1), none] []))) ∧ (¬ x1 = 12 → z_V l G m_X13_book (z_Fm G m_X13_book Q) 0 0 h_6 58 [some (.ref a0), some (.int x1), none] [])))))) ∧ (¬ (h.I a0 8) = 0 → ((h.I a0 8) ≤ 0 → vp_in 21 420 ∧ z_V l G m_X13_book (z_Fm G m_X13_book Q) 0 0 (h.sI (a0 + 6) (Int32.toNatClampNeg 21) x1) 117 [some (.ref a0), some (.int x1), some (.int 0)] []) ∧ (¬ (h.I a0 8) ≤ 0 → Q (some (.int (h.I a0 8))) h))) : z_V l G m_X13_book (z_Fm G m_X13_book Q) 0 0 h 11 [some (.ref a0), some (.int x1), none] [] := by
  refine z_aload_n (q := 12) (i := 0) (x := a0) dX13_book_11 rfl rfl rfl ?_
  obtain ⟨g_1, hf⟩ := hf
  refine z_get 11 8 (q := 15) (v := .int (h.I a0 8)) rfl (z_lt rfl) (z_L11_T g_1) q1766 dX13_book_12 rfl rfl ?_
  refine z_if_ne (q := 18) (tgt := 95) dX13_book_15 rfl rfl (fun hc => ?_) (fun hc => ?_)
  · have hf := hf.2 hc
    refine z_aload_n (q := 96) (i := 0) (x := a0) dX13_book_95 rfl rfl rfl ?_
    refine z_get 11 8 (q := 99) (v := .int (h.I a0 8)) rfl (z_lt rfl) (z_L11_T g_1) q1766 dX13_book_96 rfl rfl ?_
    refine z_if_le (q := 102) (tgt := 107) dX13_book_99 rfl rfl (fun hc => ?_) (fun hc => ?_)
    · have hf := hf.1 hc
      refine z_aload_n (q := 108) (i := 0) (x := a0) dX13_book_107 rfl rfl rfl ?_
      refine z_get 11 10 (q := 111) (v := .ref (a0 + 6)) rfl (z_lt rfl) (z_L11_T g_1) q1768 dX13_book_108 rfl (z_fvR (fun _ _ _ => rfl) (z_L11_P10 g_1)) ?_
      refine z_bipush (q := 113) (v := 21) dX13_book_111 (by decide) rfl ?_
      refine z_iload_n (q := 114) (i := 1) (x := x1) dX13_book_113 rfl rfl rfl ?_
      obtain ⟨g_2, hf⟩ := hf
      refine z_iast (q := 115) (n := 420) (z_L11_A10 g_1) g_2 dX13_book_114 rfl ?_
      refine z_iconst (q := 116) (v := 0) dX13_book_115 rfl rfl ?_
      refine z_istore_n (q := 117) (i := 2) (ls2 := [some (.ref a0), some (.int x1), some (.int 0)]) (x := 0) dX13_book_116 rfl (z_lt rfl) rfl rfl ?_
      exact hf
    · have hf := hf.2 hc
      refine z_aload_n (q := 103) (i := 0) (x := a0) dX13_book_102 rfl rfl rfl ?_
      refine z_get 11 8 (q := 106) (v := .int (h.I a0 8)) rfl (z_lt rfl) (z_L11_T g_1) q1766 dX13_book_103 rfl rfl ?_
      exact z_iret dX13_book_106 rfl hf
  · have hf := hf.1 hc
    refine z_aload_n (q := 19) (i := 0) (x := a0) dX13_book_18 rfl rfl rfl ?_
    refine z_get 11 4 (q := 22) (v := .ref (a0 + 2)) rfl (z_lt rfl) (z_L11_T g_1) q1762 dX13_book_19 rfl (z_fvR (fun _ _ _ => rfl) (z_L11_P4 g_1)) ?_
    refine z_aload_n (q := 23) (i := 0) (x := a0) dX13_book_22 rfl rfl rfl ?_
    refine z_get 11 7 (q := 26) (v := .int (h.I a0 7)) rfl (z_lt rfl) (z_L11_T g_1) q1765 dX13_book_23 rfl rfl ?_
    obtain ⟨g_3, hf⟩ := hf
    refine z_iald (q := 27) (n := 1002) (z_L11_A4 g_1) g_3 dX13_book_26 rfl ?_
    refine z_if_eq (q := 30) (tgt := 95) dX13_book_27 rfl rfl (fun hc => ?_) (fun hc => ?_)
    · have hf := hf.1 hc
      refine z_aload_n (q := 96) (i := 0) (x := a0) dX13_book_95 rfl rfl rfl ?_
      refine z_get 11 8 (q := 99) (v := .int (h.I a0 8)) rfl (z_lt rfl) (z_L11_T g_1) q1766 dX13_book_96 rfl rfl ?_
      refine z_if_le (q := 102) (tgt := 107) dX13_book_99 rfl rfl (fun hc => ?_) (fun hc => ?_)
      · have hf := hf.1 hc
        refine z_aload_n (q := 108) (i := 0) (x := a0) dX13_book_107 rfl rfl rfl ?_
        refine z_get 11 10 (q := 111) (v := .ref (a0 + 6)) rfl (z_lt rfl) (z_L11_T g_1) q1768 dX13_book_108 rfl (z_fvR (fun _ _ _ => rfl) (z_L11_P10 g_1)) ?_
        refine z_bipush (q := 113) (v := 21) dX13_book_111 (by decide) rfl ?_
        refine z_iload_n (q := 114) (i := 1) (x := x1) dX13_book_113 rfl rfl rfl ?_
        obtain ⟨g_4, hf⟩ := hf
        refine z_iast (q := 115) (n := 420) (z_L11_A10 g_1) g_4 dX13_book_114 rfl ?_
        refine z_iconst (q := 116) (v := 0) dX13_book_115 rfl rfl ?_
        refine z_istore_n (q := 117) (i := 2) (ls2 := [some (.ref a0), some (.int x1), some (.int 0)]) (x := 0) dX13_book_116 rfl (z_lt rfl) rfl rfl ?_
        exact hf
      · have hf := hf.2 hc
        refine z_aload_n (q := 103) (i := 0) (x := a0) dX13_book_102 rfl rfl rfl ?_
        refine z_get 11 8 (q := 106) (v := .int (h.I a0 8)) rfl (z_lt rfl) (z_L11_T g_1) q1766 dX13_book_103 rfl rfl ?_
        exact z_iret dX13_book_106 rfl hf
    · have hf := hf.2 hc
      refine z_aload_n (q := 31) (i := 0) (x := a0) dX13_book_30 rfl rfl rfl ?_
      refine z_bipush (q := 33) (v := 15) dX13_book_31 (by decide) rfl ?_
      refine z_cVi m_X13_isWord [.int 15] (a0) (q := 36) (rc2 := 0) (rs2 := 0) (st := []) dX13_book_33 rfl q1954 oV_X13_isWord rfl rfl ⟨z_le rfl, z_le rfl⟩ (z_le rfl) (z_rcv_of 11 rfl (z_L11_T g_1) rfl) rfl  rfl hf (fun x_5 h_6 hf => ?_)
      refine z_if_ne (q := 39) (tgt := 47) dX13_book_36 rfl rfl (fun hc => ?_) (fun hc => ?_)
      · have hf := hf.2 hc
        refine z_iload_n (q := 48) (i := 1) (x := x1) dX13_book_47 rfl rfl rfl ?_
        refine z_bipush (q := 50) (v := 12) dX13_book_48 (by decide) rfl ?_
        refine z_icmp_ne (q := 53) (tgt := 58) dX13_book_50 rfl rfl (fun hc => ?_) (fun hc => ?_)
        · have hf := hf.2 hc
          exact hf
        · have hf := hf.1 hc
          refine z_aload_n (q := 54) (i := 0) (x := a0) dX13_book_53 rfl rfl rfl ?_
          refine z_iconst (q := 55) (v := 5) dX13_book_54 rfl rfl ?_
          obtain ⟨g_7, hf⟩ := hf
          refine z_cVv m_X13_wrong [.int 5] (a0) (q := 58) (rc2 := 0) (rs2 := 0) (st := []) dX13_book_55 rfl q1962 oV_X13_wrong rfl rfl ⟨z_le rfl, z_le rfl⟩ (z_le rfl) (z_rcv_of 11 rfl (z_L11_T g_7) rfl) rfl  rfl hf (fun h_8 hf => ?_)
          exact hf
      · have hf := hf.1 hc
        refine z_aload_n (q := 40) (i := 0) (x := a0) dX13_book_39 rfl rfl rfl ?_
        refine z_iconst (q := 41) (v := 1) dX13_book_40 rfl rfl ?_
        obtain ⟨g_9, hf⟩ := hf
        refine z_cVv m_X13_wrong [.int 1] (a0) (q := 44) (rc2 := 0) (rs2 := 0) (st := []) dX13_book_41 rfl q1962 oV_X13_wrong rfl rfl ⟨z_le rfl, z_le rfl⟩ (z_le rfl) (z_rcv_of 11 rfl (z_L11_T g_9) rfl) rfl  rfl hf (fun h_10 hf => ?_)
        refine z_goto (q := 58) dX13_book_44 rfl ?_
        exact hf

theorem b_X13_book_117 {l : Launch} {G : z_G} {a0 : Nat} {x1 : Int32} {x2 : Int32} {h : z_H} {Q : z_Q}  (hf : ((15 * x1) ≤ x2 → Q (some (.int 0)) h) ∧ (¬ (15 * x1) ≤ x2 → z_L11 h a0 ∧ vp_in x2 190 ∧ vp_in (22 + x2) 420 ∧ z_V l G m_X13_book (z_Fm G m_X13_book Q) 0 0 (h.sI (a0 + 6) (Int32.toNatClampNeg (22 + x2)) (h.I (a0 + 13) (Int32.toNatClampNeg x2))) 117 [some (.ref a0), some (.int x1), some (.int (x2 + 1))] [])) : z_V l G m_X13_book (z_Fm G m_X13_book Q) 0 0 h 117 [some (.ref a0), some (.int x1), some (.int x2)] [] := by
  refine z_iload_n (q := 118) (i := 2) (x := x2) dX13_book_117 rfl rfl rfl ?_
  refine z_bipush (q := 120) (v := 15) dX13_book_118 (by decide) rfl ?_
  refine z_iload_n (q := 121) (i := 1) (x := x1) dX13_book_120 rfl rfl rfl ?_
  refine z_imul (q := 122) dX13_book_121 rfl ?_
  refine z_icmp_ge (q := 125) (tgt := 146) dX13_book_122 rfl rfl (fun hc => ?_) (fun hc => ?_)
  · have hf := hf.1 hc
    refine z_iconst (q := 147) (v := 0) dX13_book_146 rfl rfl ?_
    exact z_iret dX13_book_147 rfl hf
  · have hf := hf.2 hc
    refine z_aload_n (q := 126) (i := 0) (x := a0) dX13_book_125 rfl rfl rfl ?_
    obtain ⟨g_1, hf⟩ := hf
    refine z_get 11 10 (q := 129) (v := .ref (a0 + 6)) rfl (z_lt rfl) (z_L11_T g_1) q1768 dX13_book_126 rfl (z_fvR (fun _ _ _ => rfl) (z_L11_P10 g_1)) ?_
    refine z_bipush (q := 131) (v := 22) dX13_book_129 (by decide) rfl ?_
    refine z_iload_n (q := 132) (i := 2) (x := x2) dX13_book_131 rfl rfl rfl ?_
    refine z_iadd (q := 133) dX13_book_132 rfl ?_
    refine z_aload_n (q := 134) (i := 0) (x := a0) dX13_book_133 rfl rfl rfl ?_
    refine z_get 11 19 (q := 137) (v := .ref (a0 + 13)) rfl (z_lt rfl) (z_L11_T g_1) q1777 dX13_book_134 rfl (z_fvR (fun _ _ _ => rfl) (z_L11_P19 g_1)) ?_
    refine z_iload_n (q := 138) (i := 2) (x := x2) dX13_book_137 rfl rfl rfl ?_
    obtain ⟨g_2, hf⟩ := hf
    refine z_iald (q := 139) (n := 190) (z_L11_A19 g_1) g_2 dX13_book_138 rfl ?_
    obtain ⟨g_3, hf⟩ := hf
    refine z_iast (q := 140) (n := 420) (z_L11_A10 g_1) g_3 dX13_book_139 rfl ?_
    refine z_iinc (q := 143) (i := 2) (x := x2) (v := (x2 + 1)) (ls2 := [some (.ref a0), some (.int x1), some (.int (x2 + 1))]) dX13_book_140 rfl rfl (z_lt rfl) rfl rfl ?_
    refine z_goto (q := 117) dX13_book_143 rfl ?_
    exact hf

theorem b_X13_book_58 {l : Launch} {G : z_G} {a0 : Nat} {x1 : Int32} {h : z_H} {Q : z_Q}  (hf : z_L11 h a0 ∧ ((h.I a0 8) = 0 → z_Ct l G m_X13_readOpening [.ref a0, .int (15 * x1)] (h.sI a0 7 ((h.I a0 7) + 1)) (z_Qv (fun h_3 => z_L11 h_3 a0 ∧ z_Ct l G m_X13_takeSign [.ref a0, .int 59] h_3 (z_Qv (fun h_5 => z_V l G m_X13_book (z_Fm G m_X13_book Q) 0 0 h_5 11 [some (.ref a0), some (.int (x1 + 1)), none] []))))) ∧ (¬ (h.I a0 8) = 0 → z_Ct l G m_X13_takeSign [.ref a0, .int 59] h (z_Qv (fun h_2 => z_V l G m_X13_book (z_Fm G m_X13_book Q) 0 0 h_2 11 [some (.ref a0), some (.int x1), none] [])))) : z_V l G m_X13_book (z_Fm G m_X13_book Q) 0 0 h 58 [some (.ref a0), some (.int x1), none] [] := by
  refine z_aload_n (q := 59) (i := 0) (x := a0) dX13_book_58 rfl rfl rfl ?_
  obtain ⟨g_1, hf⟩ := hf
  refine z_get 11 8 (q := 62) (v := .int (h.I a0 8)) rfl (z_lt rfl) (z_L11_T g_1) q1766 dX13_book_59 rfl rfl ?_
  refine z_if_ne (q := 65) (tgt := 86) dX13_book_62 rfl rfl (fun hc => ?_) (fun hc => ?_)
  · have hf := hf.2 hc
    refine z_aload_n (q := 87) (i := 0) (x := a0) dX13_book_86 rfl rfl rfl ?_
    refine z_bipush (q := 89) (v := 59) dX13_book_87 (by decide) rfl ?_
    refine z_cVv m_X13_takeSign [.int 59] (a0) (q := 92) (rc2 := 0) (rs2 := 0) (st := []) dX13_book_89 rfl q2038 oV_X13_takeSign rfl rfl ⟨z_le rfl, z_le rfl⟩ (z_le rfl) (z_rcv_of 11 rfl (z_L11_T g_1) rfl) rfl  rfl hf (fun h_2 hf => ?_)
    refine z_goto (q := 11) dX13_book_92 rfl ?_
    exact hf
  · have hf := hf.1 hc
    refine z_aload_n (q := 66) (i := 0) (x := a0) dX13_book_65 rfl rfl rfl ?_
    refine z_dup (q := 67) dX13_book_66 rfl rfl ?_
    refine z_get 11 7 (q := 70) (v := .int (h.I a0 7)) rfl (z_lt rfl) (z_L11_T g_1) q1765 dX13_book_67 rfl rfl ?_
    refine z_iconst (q := 71) (v := 1) dX13_book_70 rfl rfl ?_
    refine z_iadd (q := 72) dX13_book_71 rfl ?_
    refine z_putI 11 7 (q := 75) (x := ((h.I a0 7) + 1)) (v := .int ((h.I a0 7) + 1)) rfl (z_lt rfl) (z_L11_T g_1) q1765 rfl dX13_book_72 rfl rfl rfl rfl (fun _ _ _ => rfl) ?_
    refine z_aload_n (q := 76) (i := 0) (x := a0) dX13_book_75 rfl rfl rfl ?_
    refine z_bipush (q := 78) (v := 15) dX13_book_76 (by decide) rfl ?_
    refine z_iload_n (q := 79) (i := 1) (x := x1) dX13_book_78 rfl rfl rfl ?_
    refine z_imul (q := 80) dX13_book_79 rfl ?_
    refine z_cVv m_X13_readOpening [.int (15 * x1)] (a0) (q := 83) (rc2 := 0) (rs2 := 0) (st := []) dX13_book_80 rfl q2058 oV_X13_readOpening rfl rfl ⟨z_le rfl, z_le rfl⟩ (z_le rfl) (z_rcv_of 11 rfl (z_L11_T g_1) rfl) rfl  rfl hf (fun h_3 hf => ?_)
    refine z_iinc (q := 86) (i := 1) (x := x1) (v := (x1 + 1)) (ls2 := [some (.ref a0), some (.int (x1 + 1)), none]) dX13_book_83 rfl rfl (z_lt rfl) rfl rfl ?_
    refine z_aload_n (q := 87) (i := 0) (x := a0) dX13_book_86 rfl rfl rfl ?_
    refine z_bipush (q := 89) (v := 59) dX13_book_87 (by decide) rfl ?_
    obtain ⟨g_4, hf⟩ := hf
    refine z_cVv m_X13_takeSign [.int 59] (a0) (q := 92) (rc2 := 0) (rs2 := 0) (st := []) dX13_book_89 rfl q2038 oV_X13_takeSign rfl rfl ⟨z_le rfl, z_le rfl⟩ (z_le rfl) (z_rcv_of 11 rfl (z_L11_T g_4) rfl) rfl  rfl hf (fun h_5 hf => ?_)
    refine z_goto (q := 11) dX13_book_92 rfl ?_
    exact hf

theorem u_X13_both {l : Launch} {G : z_G} {x0 : Int32} {x1 : Int32} {x2 : Int32} {h : z_H} {Q : z_Q} (hst : l.stackTraces = false)  (hf : (x0 = 4 → Q (some (.int (x1 + x2))) h) ∧ (x0 = 5 → Q (some (.int (x1 - x2))) h) ∧ (x0 = 6 → Q (some (.int (x1 * x2))) h) ∧ (x0 = 7 → Q (some (.int (if x2 ≤ x1 then 0 else 1))) h) ∧ (x0 = 8 → Q (some (.int (if x1 = x2 then 1 else 0))) h) ∧ (x0 = 9 → Q (some (.int (if x1 = 0 then 0 else (if x2 = 0 then 0 else 1)))) h) ∧ (¬ x0 = 4 ∧ ¬ x0 = 5 ∧ ¬ x0 = 6 ∧ ¬ x0 = 7 ∧ ¬ x0 = 8 ∧ ¬ x0 = 9 → Q (some (.int (if x1 = 0 then (if x2 = 0 then 0 else 1) else 1))) h)) : z_Ct l G m_X13_both [.int x0, .int x1, .int x2] h Q := by
  refine z_Ct.of (ls := [some (.int x0), some (.int x1), some (.int x2)]) hst rfl (by show plainName yX13_both.cls = true; decide +kernel) (z_le rfl) rfl ?_
  show z_V l G m_X13_both (z_Fm G m_X13_both Q) 0 0 h 0 [some (.int x0), some (.int x1), some (.int x2)] []
  refine z_iload_n (q := 1) (i := 0) (x := x0) dX13_both_0 rfl rfl rfl ?_
  rcases Decidable.em (x0 = 4) with hc | hc0
  · have hf := hf.1 hc
    refine z_tableIn (q := 40) dX13_both_1 (by rw [hc]; decide) (by rw [hc]; decide) (by rw [hc]; try rfl) rfl ?_
    refine z_iload_n (q := 41) (i := 1) (x := x1) dX13_both_40 rfl rfl rfl ?_
    refine z_iload_n (q := 42) (i := 2) (x := x2) dX13_both_41 rfl rfl rfl ?_
    refine z_iadd (q := 43) dX13_both_42 rfl ?_
    exact z_iret dX13_both_43 rfl hf
  rcases Decidable.em (x0 = 5) with hc | hc1
  · have hf := hf.2.1 hc
    refine z_tableIn (q := 44) dX13_both_1 (by rw [hc]; decide) (by rw [hc]; decide) (by rw [hc]; try rfl) rfl ?_
    refine z_iload_n (q := 45) (i := 1) (x := x1) dX13_both_44 rfl rfl rfl ?_
    refine z_iload_n (q := 46) (i := 2) (x := x2) dX13_both_45 rfl rfl rfl ?_
    refine z_isub (q := 47) dX13_both_46 rfl ?_
    exact z_iret dX13_both_47 rfl hf
  rcases Decidable.em (x0 = 6) with hc | hc2
  · have hf := hf.2.2.1 hc
    refine z_tableIn (q := 48) dX13_both_1 (by rw [hc]; decide) (by rw [hc]; decide) (by rw [hc]; try rfl) rfl ?_
    refine z_iload_n (q := 49) (i := 1) (x := x1) dX13_both_48 rfl rfl rfl ?_
    refine z_iload_n (q := 50) (i := 2) (x := x2) dX13_both_49 rfl rfl rfl ?_
    refine z_imul (q := 51) dX13_both_50 rfl ?_
    exact z_iret dX13_both_51 rfl hf
  rcases Decidable.em (x0 = 7) with hc | hc3
  · have hf := hf.2.2.2.1 hc
    refine z_tableIn (q := 52) dX13_both_1 (by rw [hc]; decide) (by rw [hc]; decide) (by rw [hc]; try rfl) rfl ?_
    refine z_iload_n (q := 53) (i := 1) (x := x1) dX13_both_52 rfl rfl rfl ?_
    refine z_iload_n (q := 54) (i := 2) (x := x2) dX13_both_53 rfl rfl rfl ?_
    have hk : z_V l G m_X13_both (z_Fm G m_X13_both Q) 0 0 h 62 [some (.int x0), some (.int x1), some (.int x2)] [.int (if x2 ≤ x1 then 0 else 1)] := by
      exact z_iret dX13_both_62 rfl hf
    refine z_icmp_ge (q := 57) (tgt := 61) dX13_both_54 rfl rfl (fun hc => ?_) (fun hc => ?_)
    · have hk := (z_ite hk).1 hc
      refine z_iconst (q := 62) (v := 0) dX13_both_61 rfl rfl ?_
      exact hk
    · have hk := (z_ite hk).2 hc
      refine z_iconst (q := 58) (v := 1) dX13_both_57 rfl rfl ?_
      refine z_goto (q := 62) dX13_both_58 rfl ?_
      exact hk
  rcases Decidable.em (x0 = 8) with hc | hc4
  · have hf := hf.2.2.2.2.1 hc
    refine z_tableIn (q := 63) dX13_both_1 (by rw [hc]; decide) (by rw [hc]; decide) (by rw [hc]; try rfl) rfl ?_
    refine z_iload_n (q := 64) (i := 1) (x := x1) dX13_both_63 rfl rfl rfl ?_
    refine z_iload_n (q := 65) (i := 2) (x := x2) dX13_both_64 rfl rfl rfl ?_
    have hk : z_V l G m_X13_both (z_Fm G m_X13_both Q) 0 0 h 73 [some (.int x0), some (.int x1), some (.int x2)] [.int (if x1 = x2 then 1 else 0)] := by
      exact z_iret dX13_both_73 rfl hf
    refine z_icmp_ne (q := 68) (tgt := 72) dX13_both_65 rfl rfl (fun hc => ?_) (fun hc => ?_)
    · have hk := (z_ite hk).2 hc
      refine z_iconst (q := 73) (v := 0) dX13_both_72 rfl rfl ?_
      exact hk
    · have hk := (z_ite hk).1 hc
      refine z_iconst (q := 69) (v := 1) dX13_both_68 rfl rfl ?_
      refine z_goto (q := 73) dX13_both_69 rfl ?_
      exact hk
  rcases Decidable.em (x0 = 9) with hc | hc5
  · have hf := hf.2.2.2.2.2.1 hc
    refine z_tableIn (q := 74) dX13_both_1 (by rw [hc]; decide) (by rw [hc]; decide) (by rw [hc]; try rfl) rfl ?_
    refine z_iload_n (q := 75) (i := 1) (x := x1) dX13_both_74 rfl rfl rfl ?_
    have hk : z_V l G m_X13_both (z_Fm G m_X13_both Q) 0 0 h 87 [some (.int x0), some (.int x1), some (.int x2)] [.int (if x1 = 0 then 0 else (if x2 = 0 then 0 else 1))] := by
      exact z_iret dX13_both_87 rfl hf
    refine z_if_eq (q := 78) (tgt := 86) dX13_both_75 rfl rfl (fun hc => ?_) (fun hc => ?_)
    · have hk := (z_ite hk).1 hc
      refine z_iconst (q := 87) (v := 0) dX13_both_86 rfl rfl ?_
      exact hk
    · have hk := (z_ite hk).2 hc
      refine z_iload_n (q := 79) (i := 2) (x := x2) dX13_both_78 rfl rfl rfl ?_
      refine z_if_eq (q := 82) (tgt := 86) dX13_both_79 rfl rfl (fun hc => ?_) (fun hc => ?_)
      · have hk := (z_ite hk).1 hc
        refine z_iconst (q := 87) (v := 0) dX13_both_86 rfl rfl ?_
        exact hk
      · have hk := (z_ite hk).2 hc
        refine z_iconst (q := 83) (v := 1) dX13_both_82 rfl rfl ?_
        refine z_goto (q := 87) dX13_both_83 rfl ?_
        exact hk
  have hf := hf.2.2.2.2.2.2 ⟨hc0, hc1, hc2, hc3, hc4, hc5⟩
  refine z_tableOut (q := 88) dX13_both_1 (z_tout 6 (by decide) (fun j hj => ?_)) rfl ?_
  · match j, hj with
    | 0, _ => exact fun z => lv_neT hc0 (a := ((0 : Nat) : Int)) (by decide) z
    | 1, _ => exact fun z => lv_neT hc1 (a := ((1 : Nat) : Int)) (by decide) z
    | 2, _ => exact fun z => lv_neT hc2 (a := ((2 : Nat) : Int)) (by decide) z
    | 3, _ => exact fun z => lv_neT hc3 (a := ((3 : Nat) : Int)) (by decide) z
    | 4, _ => exact fun z => lv_neT hc4 (a := ((4 : Nat) : Int)) (by decide) z
    | 5, _ => exact fun z => lv_neT hc5 (a := ((5 : Nat) : Int)) (by decide) z
    | j + 6, hj => exact absurd hj (by omega)
  · skip
    refine z_iload_n (q := 89) (i := 1) (x := x1) dX13_both_88 rfl rfl rfl ?_
    have hk : z_V l G m_X13_both (z_Fm G m_X13_both Q) 0 0 h 101 [some (.int x0), some (.int x1), some (.int x2)] [.int (if x1 = 0 then (if x2 = 0 then 0 else 1) else 1)] := by
      exact z_iret dX13_both_101 rfl hf
    refine z_if_ne (q := 92) (tgt := 96) dX13_both_89 rfl rfl (fun hc => ?_) (fun hc => ?_)
    · have hk := (z_ite hk).2 hc
      refine z_iconst (q := 97) (v := 1) dX13_both_96 rfl rfl ?_
      refine z_goto (q := 101) dX13_both_97 rfl ?_
      exact hk
    · have hk := (z_ite hk).1 hc
      refine z_iload_n (q := 93) (i := 2) (x := x2) dX13_both_92 rfl rfl rfl ?_
      refine z_if_eq (q := 96) (tgt := 100) dX13_both_93 rfl rfl (fun hc => ?_) (fun hc => ?_)
      · have hk := (z_ite hk).1 hc
        refine z_iconst (q := 101) (v := 0) dX13_both_100 rfl rfl ?_
        exact hk
      · have hk := (z_ite hk).2 hc
        refine z_iconst (q := 97) (v := 1) dX13_both_96 rfl rfl ?_
        refine z_goto (q := 101) dX13_both_97 rfl ?_
        exact hk

theorem u_X13_both_2 {l : Launch} {G : z_G} {a0 : Nat} {x1 : Int32} {h : z_H} {Q : z_Q} (hst : l.stackTraces = false)  (hf : z_L11 h a0 ∧ z_Ct l G m_X13_within [.int x1, .int 1, .int 4] (h.sI a0 0 0) (z_Qi (fun x_2 h_3 => (x_2 = 0 → Q (some (.int (-1))) h_3) ∧ (¬ x_2 = 0 → z_L11 h_3 a0 ∧ vp_in 11 16560 ∧ ((h_3.I (a0 + 16) (Int32.toNatClampNeg 11)) = 1 → Q (some (.int (-1))) h_3) ∧ (¬ (h_3.I (a0 + 16) (Int32.toNatClampNeg 11)) = 1 → z_Ct l G m_X13_copies [.ref a0, .int 0, .int 9660, .int 164] h_3 (z_Qv (fun h_6 => z_L11 h_6 a0 ∧ z_Ct l G (m_X13_mustWin 5) [.ref a0, .int 9660, .int x1] h_6 (z_Qi (fun x_8 h_9 => Q (some (.int (if x_8 = 0 then 0 else 1))) h_9))))))))) : z_Ct l G m_X13_both_2 [.ref a0, .int x1] h Q := by
  refine z_Ct.of (ls := [some (.ref a0), some (.int x1)]) hst rfl (by show plainName yX13_both_2.cls = true; decide +kernel) (z_le rfl) rfl ?_
  show z_V l G m_X13_both_2 (z_Fm G m_X13_both_2 Q) 0 0 h 0 [some (.ref a0), some (.int x1)] []
  refine z_aload_n (q := 1) (i := 0) (x := a0) dX13_both_2_0 rfl rfl rfl ?_
  refine z_iconst (q := 2) (v := 0) dX13_both_2_1 rfl rfl ?_
  obtain ⟨g_1, hf⟩ := hf
  refine z_putI 11 0 (q := 5) (x := 0) (v := .int 0) rfl (z_lt rfl) (z_L11_T g_1) q1758 rfl dX13_both_2_2 rfl rfl rfl rfl (fun _ _ _ => rfl) ?_
  refine z_iload_n (q := 6) (i := 1) (x := x1) dX13_both_2_5 rfl rfl rfl ?_
  refine z_iconst (q := 7) (v := 1) dX13_both_2_6 rfl rfl ?_
  refine z_iconst (q := 8) (v := 4) dX13_both_2_7 rfl rfl ?_
  refine z_cSi m_X13_within [.int x1, .int 1, .int 4] (q := 11) (rc2 := 0) (rs2 := 0) (st := []) dX13_both_2_8 rfl q2074 oS_X13_within rfl rfl ⟨z_le rfl, z_le rfl⟩ (z_le rfl) rfl  rfl hf (fun x_2 h_3 hf => ?_)
  refine z_if_eq (q := 14) (tgt := 25) dX13_both_2_11 rfl rfl (fun hc => ?_) (fun hc => ?_)
  · have hf := hf.1 hc
    refine z_iconst (q := 26) (v := (-1)) dX13_both_2_25 rfl rfl ?_
    exact z_iret dX13_both_2_26 rfl hf
  · have hf := hf.2 hc
    refine z_aload_n (q := 15) (i := 0) (x := a0) dX13_both_2_14 rfl rfl rfl ?_
    obtain ⟨g_4, hf⟩ := hf
    refine z_get 11 22 (q := 18) (v := .ref (a0 + 16)) rfl (z_lt rfl) (z_L11_T g_4) q1780 dX13_both_2_15 rfl (z_fvR (fun _ _ _ => rfl) (z_L11_P22 g_4)) ?_
    refine z_bipush (q := 20) (v := 11) dX13_both_2_18 (by decide) rfl ?_
    obtain ⟨g_5, hf⟩ := hf
    refine z_iald (q := 21) (n := 16560) (z_L11_A22 g_4) g_5 dX13_both_2_20 rfl ?_
    refine z_iconst (q := 22) (v := 1) dX13_both_2_21 rfl rfl ?_
    refine z_icmp_ne (q := 25) (tgt := 27) dX13_both_2_22 rfl rfl (fun hc => ?_) (fun hc => ?_)
    · have hf := hf.2 hc
      refine z_aload_n (q := 28) (i := 0) (x := a0) dX13_both_2_27 rfl rfl rfl ?_
      refine z_iconst (q := 29) (v := 0) dX13_both_2_28 rfl rfl ?_
      refine z_sipush (q := 32) (v := 9660) dX13_both_2_29 (by decide) rfl ?_
      refine z_sipush (q := 35) (v := 164) dX13_both_2_32 (by decide) rfl ?_
      refine z_cVv m_X13_copies [.int 0, .int 9660, .int 164] (a0) (q := 38) (rc2 := 0) (rs2 := 0) (st := []) dX13_both_2_35 rfl q2104 oV_X13_copies rfl rfl ⟨z_le rfl, z_le rfl⟩ (z_le rfl) (z_rcv_of 11 rfl (z_L11_T g_4) rfl) rfl  rfl hf (fun h_6 hf => ?_)
      refine z_aload_n (q := 39) (i := 0) (x := a0) dX13_both_2_38 rfl rfl rfl ?_
      refine z_sipush (q := 42) (v := 9660) dX13_both_2_39 (by decide) rfl ?_
      refine z_iload_n (q := 43) (i := 1) (x := x1) dX13_both_2_42 rfl rfl rfl ?_
      obtain ⟨g_7, hf⟩ := hf
      refine z_cVi (m_X13_mustWin 5) [.int 9660, .int x1] (a0) (q := 46) (rc2 := 0) (rs2 := 0) (st := []) dX13_both_2_43 rfl q2297 (oV_X13_mustWin _) rfl rfl (z_room_of (by first | exact z_le rfl | (simp only [z_M.d, z_M.nL, z_M.lo, m_X13_mustWin, m_X13_both_2]; omega)) (by first | exact z_le rfl | (simp only [z_M.d, z_M.nL, z_M.lo, m_X13_mustWin, m_X13_both_2]; omega))) (z_le rfl) (z_rcv_of 11 rfl (z_L11_T g_7) rfl) rfl  rfl hf (fun x_8 h_9 hf => ?_)
      have hk : z_V l G m_X13_both_2 (z_Fm G m_X13_both_2 Q) 0 0 h_9 54 [some (.ref a0), some (.int x1)] [.int (if x_8 = 0 then 0 else 1)] := by
        exact z_iret dX13_both_2_54 rfl hf
      refine z_if_eq (q := 49) (tgt := 53) dX13_both_2_46 rfl rfl (fun hc => ?_) (fun hc => ?_)
      · have hk := (z_ite hk).1 hc
        refine z_iconst (q := 54) (v := 0) dX13_both_2_53 rfl rfl ?_
        exact hk
      · have hk := (z_ite hk).2 hc
        refine z_iconst (q := 50) (v := 1) dX13_both_2_49 rfl rfl ?_
        refine z_goto (q := 54) dX13_both_2_50 rfl ?_
        exact hk
    · have hf := hf.1 hc
      refine z_iconst (q := 26) (v := (-1)) dX13_both_2_25 rfl rfl ?_
      exact z_iret dX13_both_2_26 rfl hf

theorem u_X13_canWin {l : Launch} {G : z_G} {d : Nat} {a0 : Nat} {x1 : Int32} {x2 : Int32} {x3 : Int32} {h : z_H} {Q : z_Q} (hst : l.stackTraces = false)  (hf : z_L11 h a0 ∧ z_Ct l G m_X13_goesToHeap [.ref a0, .int x1] h (z_Qi (fun x_2 h_3 => (x_2 = 0 → z_V l G (m_X13_canWin (d + 1)) (z_Fm G (m_X13_canWin (d + 1)) Q) 0 0 h_3 11 [some (.ref a0), some (.int x1), none, some (.int x3), some (.int 0), none] []) ∧ (¬ x_2 = 0 → (x2 = 0 → Q (some (.int 0)) h_3) ∧ (¬ x2 = 0 → z_L11 h_3 a0 ∧ vp_in (x1 + 5) 16560 ∧ ∀ v_6 : Int32, v_6 = (if (h_3.I (a0 + 16) (Int32.toNatClampNeg (x1 + 5))) = 0 then 1 else 0) → z_V l G (m_X13_canWin (d + 1)) (z_Fm G (m_X13_canWin (d + 1)) Q) 0 0 h_3 99 [some (.ref a0), some (.int x1), some (.int x2), some (.int x3), some (.int v_6), some (.int 0)] []))))) : z_Ct l G (m_X13_canWin (d + 1)) [.ref a0, .int x1, .int x2, .int x3] h Q := by
  refine z_Ct.of (ls := [some (.ref a0), some (.int x1), some (.int x2), some (.int x3), none, none]) hst rfl (by show plainName yX13_canWin.cls = true; decide +kernel) (z_le rfl) rfl ?_
  show z_V l G (m_X13_canWin (d + 1)) (z_Fm G (m_X13_canWin (d + 1)) Q) 0 0 h 0 [some (.ref a0), some (.int x1), some (.int x2), some (.int x3), none, none] []
  refine z_aload_n (q := 1) (i := 0) (x := a0) dX13_canWin_0 rfl rfl rfl ?_
  refine z_iload_n (q := 2) (i := 1) (x := x1) dX13_canWin_1 rfl rfl rfl ?_
  obtain ⟨g_1, hf⟩ := hf
  refine z_cVi m_X13_goesToHeap [.int x1] (a0) (q := 5) (rc2 := 0) (rs2 := 0) (st := []) dX13_canWin_2 rfl q2289 oV_X13_goesToHeap rfl rfl (z_room_of (by first | exact z_le rfl | (simp only [z_M.d, z_M.nL, z_M.lo, m_X13_goesToHeap, m_X13_canWin]; omega)) (by first | exact z_le rfl | (simp only [z_M.d, z_M.nL, z_M.lo, m_X13_goesToHeap, m_X13_canWin]; omega))) (z_le rfl) (z_rcv_of 11 rfl (z_L11_T g_1) rfl) rfl  rfl hf (fun x_2 h_3 hf => ?_)
  refine z_if_ne (q := 8) (tgt := 72) dX13_canWin_5 rfl rfl (fun hc => ?_) (fun hc => ?_)
  · have hf := hf.2 hc
    refine z_iload_n (q := 73) (i := 2) (x := x2) dX13_canWin_72 rfl rfl rfl ?_
    refine z_if_ne (q := 76) (tgt := 78) dX13_canWin_73 rfl rfl (fun hc => ?_) (fun hc => ?_)
    · have hf := hf.2 hc
      refine z_aload_n (q := 79) (i := 0) (x := a0) dX13_canWin_78 rfl rfl rfl ?_
      obtain ⟨g_4, hf⟩ := hf
      refine z_get 11 22 (q := 82) (v := .ref (a0 + 16)) rfl (z_lt rfl) (z_L11_T g_4) q1780 dX13_canWin_79 rfl (z_fvR (fun _ _ _ => rfl) (z_L11_P22 g_4)) ?_
      refine z_iload_n (q := 83) (i := 1) (x := x1) dX13_canWin_82 rfl rfl rfl ?_
      refine z_iconst (q := 84) (v := 5) dX13_canWin_83 rfl rfl ?_
      refine z_iadd (q := 85) dX13_canWin_84 rfl ?_
      obtain ⟨g_5, hf⟩ := hf
      refine z_iald (q := 86) (n := 16560) (z_L11_A22 g_4) g_5 dX13_canWin_85 rfl ?_
      have hk : z_V l G (m_X13_canWin (d + 1)) (z_Fm G (m_X13_canWin (d + 1)) Q) 0 0 h_3 94 [some (.ref a0), some (.int x1), some (.int x2), some (.int x3), none, none] [.int (if (h_3.I (a0 + 16) (Int32.toNatClampNeg (x1 + 5))) = 0 then 1 else 0)] := by
        refine z_nmI (fun v_6 hv_7 => ?_)
        have hf := hf v_6 hv_7
        refine z_istore (q := 96) (i := 4) (ls2 := [some (.ref a0), some (.int x1), some (.int x2), some (.int x3), some (.int v_6), none]) (x := v_6) dX13_canWin_94 (z_lt rfl) rfl rfl ?_
        refine z_iconst (q := 97) (v := 0) dX13_canWin_96 rfl rfl ?_
        refine z_istore (q := 99) (i := 5) (ls2 := [some (.ref a0), some (.int x1), some (.int x2), some (.int x3), some (.int v_6), some (.int 0)]) (x := 0) dX13_canWin_97 (z_lt rfl) rfl rfl ?_
        exact hf
      refine z_if_ne (q := 89) (tgt := 93) dX13_canWin_86 rfl rfl (fun hc => ?_) (fun hc => ?_)
      · have hk := (z_ite hk).2 hc
        refine z_iconst (q := 94) (v := 0) dX13_canWin_93 rfl rfl ?_
        exact hk
      · have hk := (z_ite hk).1 hc
        refine z_iconst (q := 90) (v := 1) dX13_canWin_89 rfl rfl ?_
        refine z_goto (q := 94) dX13_canWin_90 rfl ?_
        exact hk
    · have hf := hf.1 hc
      refine z_iconst (q := 77) (v := 0) dX13_canWin_76 rfl rfl ?_
      exact z_zret dX13_canWin_77 rfl (z_nb01 z_b0) hf
  · have hf := hf.1 hc
    refine z_iconst (q := 9) (v := 0) dX13_canWin_8 rfl rfl ?_
    refine z_istore (q := 11) (i := 4) (ls2 := [some (.ref a0), some (.int x1), some (.int x2), some (.int x3), some (.int 0), none]) (x := 0) dX13_canWin_9 (z_lt rfl) rfl rfl ?_
    refine z_prune [true, true, false, true, true, false] (ls2 := [some (.ref a0), some (.int x1), none, some (.int x3), some (.int 0), none]) rfl ?_
    exact hf

theorem b_X13_canWin_99 {l : Launch} {G : z_G} {d : Nat} {a0 : Nat} {x1 : Int32} {x2 : Int32} {x3 : Int32} {x4 : Int32} {x5 : Int32} {h : z_H} {Q : z_Q}  (hf : ((if x4 = 0 then 1 else 5) ≤ x5 → Q (some (.int 0)) h) ∧ (¬ (if x4 = 0 then 1 else 5) ≤ x5 → z_L11 h a0 ∧ z_Ct l G m_X13_copies [.ref a0, .int x1, .int (x1 + 460), .int 164] h (z_Qv (fun h_2 => z_L11 h_2 a0 ∧ ((x4 = 0 → vp_in 1 420 ∧ True) ∧ (¬ x4 = 0 → True)) ∧ z_Ct l G m_X13_takes [.ref a0, .int (x1 + 460), .int (if x4 = 0 then (h_2.I (a0 + 6) (Int32.toNatClampNeg 1)) else x5)] h_2 (z_Qv (fun h_5 => (x4 = 0 → z_L11 h_5 a0 ∧ z_Ct l G (m_X13_canWin d) [.ref a0, .int (x1 + 460), .int (x2 - 1), .int (if x4 = 0 then x3 else (x3 + 1))] h_5 (z_Qi (fun x_7 h_8 => (x_7 = 0 → z_V l G (m_X13_canWin (d + 1)) (z_Fm G (m_X13_canWin (d + 1)) Q) 0 0 h_8 99 [some (.ref a0), some (.int x1), some (.int x2), some (.int x3), some (.int x4), some (.int (x5 + 1))] []) ∧ (¬ x_7 = 0 → Q (some (.int 1)) h_8)))) ∧ (¬ x4 = 0 → z_L11 h_5 a0 ∧ vp_in x3 8 ∧ z_Ct l G (m_X13_canWin d) [.ref a0, .int (x1 + 460), .int (x2 - 1), .int (if x4 = 0 then x3 else (x3 + 1))] (h_5.sI (a0 + 31) (Int32.toNatClampNeg x3) x5) (z_Qi (fun x_11 h_12 => (x_11 = 0 → z_V l G (m_X13_canWin (d + 1)) (z_Fm G (m_X13_canWin (d + 1)) Q) 0 0 h_12 99 [some (.ref a0), some (.int x1), some (.int x2), some (.int x3), some (.int x4), some (.int (x5 + 1))] []) ∧ (¬ x_11 = 0 → Q (some (.int 1)) h_12)))))))))) : z_V l G (m_X13_canWin (d + 1)) (z_Fm G (m_X13_canWin (d + 1)) Q) 0 0 h 99 [some (.ref a0), some (.int x1), some (.int x2), some (.int x3), some (.int x4), some (.int x5)] [] := by
  refine z_iload (q := 101) (i := 5) (x := x5) dX13_canWin_99 rfl rfl ?_
  refine z_iload (q := 103) (i := 4) (x := x4) dX13_canWin_101 rfl rfl ?_
  have hk : z_V l G (m_X13_canWin (d + 1)) (z_Fm G (m_X13_canWin (d + 1)) Q) 0 0 h 111 [some (.ref a0), some (.int x1), some (.int x2), some (.int x3), some (.int x4), some (.int x5)] [.int (if x4 = 0 then 1 else 5), .int x5] := by
    refine z_icmp_ge (q := 114) (tgt := 200) dX13_canWin_111 rfl rfl (fun hc => ?_) (fun hc => ?_)
    · have hf := hf.1 hc
      refine z_iconst (q := 201) (v := 0) dX13_canWin_200 rfl rfl ?_
      exact z_zret dX13_canWin_201 rfl (z_nb01 z_b0) hf
    · have hf := hf.2 hc
      refine z_aload_n (q := 115) (i := 0) (x := a0) dX13_canWin_114 rfl rfl rfl ?_
      refine z_iload_n (q := 116) (i := 1) (x := x1) dX13_canWin_115 rfl rfl rfl ?_
      refine z_iload_n (q := 117) (i := 1) (x := x1) dX13_canWin_116 rfl rfl rfl ?_
      refine z_sipush (q := 120) (v := 460) dX13_canWin_117 (by decide) rfl ?_
      refine z_iadd (q := 121) dX13_canWin_120 rfl ?_
      refine z_sipush (q := 124) (v := 164) dX13_canWin_121 (by decide) rfl ?_
      obtain ⟨g_1, hf⟩ := hf
      refine z_cVv m_X13_copies [.int x1, .int (x1 + 460), .int 164] (a0) (q := 127) (rc2 := 0) (rs2 := 0) (st := []) dX13_canWin_124 rfl q2104 oV_X13_copies rfl rfl (z_room_of (by first | exact z_le rfl | (simp only [z_M.d, z_M.nL, z_M.lo, m_X13_copies, m_X13_canWin]; omega)) (by first | exact z_le rfl | (simp only [z_M.d, z_M.nL, z_M.lo, m_X13_copies, m_X13_canWin]; omega))) (z_le rfl) (z_rcv_of 11 rfl (z_L11_T g_1) rfl) rfl  rfl hf (fun h_2 hf => ?_)
      refine z_aload_n (q := 128) (i := 0) (x := a0) dX13_canWin_127 rfl rfl rfl ?_
      refine z_iload_n (q := 129) (i := 1) (x := x1) dX13_canWin_128 rfl rfl rfl ?_
      refine z_sipush (q := 132) (v := 460) dX13_canWin_129 (by decide) rfl ?_
      refine z_iadd (q := 133) dX13_canWin_132 rfl ?_
      refine z_iload (q := 135) (i := 4) (x := x4) dX13_canWin_133 rfl rfl ?_
      obtain ⟨g_3, hf⟩ := hf
      obtain ⟨hsc, hf⟩ := hf
      have hk : z_V l G (m_X13_canWin (d + 1)) (z_Fm G (m_X13_canWin (d + 1)) Q) 0 0 h_2 149 [some (.ref a0), some (.int x1), some (.int x2), some (.int x3), some (.int x4), some (.int x5)] [.int (if x4 = 0 then (h_2.I (a0 + 6) (Int32.toNatClampNeg 1)) else x5), .int (x1 + 460), .ref a0] := by
        refine z_cVv m_X13_takes [.int (x1 + 460), .int (if x4 = 0 then (h_2.I (a0 + 6) (Int32.toNatClampNeg 1)) else x5)] (a0) (q := 152) (rc2 := 0) (rs2 := 0) (st := []) dX13_canWin_149 rfl q2132 oV_X13_takes rfl rfl (z_room_of (by first | exact z_le rfl | (simp only [z_M.d, z_M.nL, z_M.lo, m_X13_takes, m_X13_canWin]; omega)) (by first | exact z_le rfl | (simp only [z_M.d, z_M.nL, z_M.lo, m_X13_takes, m_X13_canWin]; omega))) (z_le rfl) (z_rcv_of 11 rfl (z_L11_T g_3) rfl) rfl  rfl hf (fun h_5 hf => ?_)
        refine z_iload (q := 154) (i := 4) (x := x4) dX13_canWin_152 rfl rfl ?_
        refine z_if_eq (q := 157) (tgt := 165) dX13_canWin_154 rfl rfl (fun hc => ?_) (fun hc => ?_)
        · have hf := hf.1 hc
          refine z_aload_n (q := 166) (i := 0) (x := a0) dX13_canWin_165 rfl rfl rfl ?_
          refine z_iload_n (q := 167) (i := 1) (x := x1) dX13_canWin_166 rfl rfl rfl ?_
          refine z_sipush (q := 170) (v := 460) dX13_canWin_167 (by decide) rfl ?_
          refine z_iadd (q := 171) dX13_canWin_170 rfl ?_
          refine z_iload_n (q := 172) (i := 2) (x := x2) dX13_canWin_171 rfl rfl rfl ?_
          refine z_iconst (q := 173) (v := 1) dX13_canWin_172 rfl rfl ?_
          refine z_isub (q := 174) dX13_canWin_173 rfl ?_
          refine z_iload (q := 176) (i := 4) (x := x4) dX13_canWin_174 rfl rfl ?_
          have hk : z_V l G (m_X13_canWin (d + 1)) (z_Fm G (m_X13_canWin (d + 1)) Q) 0 0 h_5 186 [some (.ref a0), some (.int x1), some (.int x2), some (.int x3), some (.int x4), some (.int x5)] [.int (if x4 = 0 then x3 else (x3 + 1)), .int (x2 - 1), .int (x1 + 460), .ref a0] := by
            obtain ⟨g_6, hf⟩ := hf
            refine z_cVi (m_X13_canWin d) [.int (x1 + 460), .int (x2 - 1), .int (if x4 = 0 then x3 else (x3 + 1))] (a0) (q := 189) (rc2 := 0) (rs2 := 0) (st := []) dX13_canWin_186 rfl q2285 (oV_X13_canWin _) rfl rfl (z_room_of (by first | exact z_le rfl | (simp only [z_M.d, z_M.nL, z_M.lo, m_X13_canWin, m_X13_canWin]; omega)) (by first | exact z_le rfl | (simp only [z_M.d, z_M.nL, z_M.lo, m_X13_canWin, m_X13_canWin]; omega))) (z_le rfl) (z_rcv_of 11 rfl (z_L11_T g_6) rfl) rfl  rfl hf (fun x_7 h_8 hf => ?_)
            refine z_if_eq (q := 192) (tgt := 194) dX13_canWin_189 rfl rfl (fun hc => ?_) (fun hc => ?_)
            · have hf := hf.1 hc
              refine z_iinc (q := 197) (i := 5) (x := x5) (v := (x5 + 1)) (ls2 := [some (.ref a0), some (.int x1), some (.int x2), some (.int x3), some (.int x4), some (.int (x5 + 1))]) dX13_canWin_194 rfl rfl (z_lt rfl) rfl rfl ?_
              refine z_goto (q := 99) dX13_canWin_197 rfl ?_
              exact hf
            · have hf := hf.2 hc
              refine z_iconst (q := 193) (v := 1) dX13_canWin_192 rfl rfl ?_
              exact z_zret dX13_canWin_193 rfl (z_nb01 z_b1) hf
          refine z_if_eq (q := 179) (tgt := 185) dX13_canWin_176 rfl rfl (fun hc => ?_) (fun hc => ?_)
          · have hk := (z_ite hk).1 hc
            refine z_iload_n (q := 186) (i := 3) (x := x3) dX13_canWin_185 rfl rfl rfl ?_
            exact hk
          · have hk := (z_ite hk).2 hc
            refine z_iload_n (q := 180) (i := 3) (x := x3) dX13_canWin_179 rfl rfl rfl ?_
            refine z_iconst (q := 181) (v := 1) dX13_canWin_180 rfl rfl ?_
            refine z_iadd (q := 182) dX13_canWin_181 rfl ?_
            refine z_goto (q := 186) dX13_canWin_182 rfl ?_
            exact hk
        · have hf := hf.2 hc
          refine z_aload_n (q := 158) (i := 0) (x := a0) dX13_canWin_157 rfl rfl rfl ?_
          obtain ⟨g_9, hf⟩ := hf
          refine z_get 11 52 (q := 161) (v := .ref (a0 + 31)) rfl (z_lt rfl) (z_L11_T g_9) q1810 dX13_canWin_158 rfl (z_fvR (fun _ _ _ => rfl) (z_L11_P52 g_9)) ?_
          refine z_iload_n (q := 162) (i := 3) (x := x3) dX13_canWin_161 rfl rfl rfl ?_
          refine z_iload (q := 164) (i := 5) (x := x5) dX13_canWin_162 rfl rfl ?_
          obtain ⟨g_10, hf⟩ := hf
          refine z_iast (q := 165) (n := 8) (z_L11_A52 g_9) g_10 dX13_canWin_164 rfl ?_
          refine z_aload_n (q := 166) (i := 0) (x := a0) dX13_canWin_165 rfl rfl rfl ?_
          refine z_iload_n (q := 167) (i := 1) (x := x1) dX13_canWin_166 rfl rfl rfl ?_
          refine z_sipush (q := 170) (v := 460) dX13_canWin_167 (by decide) rfl ?_
          refine z_iadd (q := 171) dX13_canWin_170 rfl ?_
          refine z_iload_n (q := 172) (i := 2) (x := x2) dX13_canWin_171 rfl rfl rfl ?_
          refine z_iconst (q := 173) (v := 1) dX13_canWin_172 rfl rfl ?_
          refine z_isub (q := 174) dX13_canWin_173 rfl ?_
          refine z_iload (q := 176) (i := 4) (x := x4) dX13_canWin_174 rfl rfl ?_
          have hk : z_V l G (m_X13_canWin (d + 1)) (z_Fm G (m_X13_canWin (d + 1)) Q) 0 0 (h_5.sI (a0 + 31) (Int32.toNatClampNeg x3) x5) 186 [some (.ref a0), some (.int x1), some (.int x2), some (.int x3), some (.int x4), some (.int x5)] [.int (if x4 = 0 then x3 else (x3 + 1)), .int (x2 - 1), .int (x1 + 460), .ref a0] := by
            refine z_cVi (m_X13_canWin d) [.int (x1 + 460), .int (x2 - 1), .int (if x4 = 0 then x3 else (x3 + 1))] (a0) (q := 189) (rc2 := 0) (rs2 := 0) (st := []) dX13_canWin_186 rfl q2285 (oV_X13_canWin _) rfl rfl (z_room_of (by first | exact z_le rfl | (simp only [z_M.d, z_M.nL, z_M.lo, m_X13_canWin, m_X13_canWin]; omega)) (by first | exact z_le rfl | (simp only [z_M.d, z_M.nL, z_M.lo, m_X13_canWin, m_X13_canWin]; omega))) (z_le rfl) (z_rcv_of 11 rfl (z_L11_T g_9) rfl) rfl  rfl hf (fun x_11 h_12 hf => ?_)
            refine z_if_eq (q := 192) (tgt := 194) dX13_canWin_189 rfl rfl (fun hc => ?_) (fun hc => ?_)
            · have hf := hf.1 hc
              refine z_iinc (q := 197) (i := 5) (x := x5) (v := (x5 + 1)) (ls2 := [some (.ref a0), some (.int x1), some (.int x2), some (.int x3), some (.int x4), some (.int (x5 + 1))]) dX13_canWin_194 rfl rfl (z_lt rfl) rfl rfl ?_
              refine z_goto (q := 99) dX13_canWin_197 rfl ?_
              exact hf
            · have hf := hf.2 hc
              refine z_iconst (q := 193) (v := 1) dX13_canWin_192 rfl rfl ?_
              exact z_zret dX13_canWin_193 rfl (z_nb01 z_b1) hf
          refine z_if_eq (q := 179) (tgt := 185) dX13_canWin_176 rfl rfl (fun hc => ?_) (fun hc => ?_)
          · have hk := (z_ite hk).1 hc
            refine z_iload_n (q := 186) (i := 3) (x := x3) dX13_canWin_185 rfl rfl rfl ?_
            exact hk
          · have hk := (z_ite hk).2 hc
            refine z_iload_n (q := 180) (i := 3) (x := x3) dX13_canWin_179 rfl rfl rfl ?_
            refine z_iconst (q := 181) (v := 1) dX13_canWin_180 rfl rfl ?_
            refine z_iadd (q := 182) dX13_canWin_181 rfl ?_
            refine z_goto (q := 186) dX13_canWin_182 rfl ?_
            exact hk
      refine z_if_eq (q := 138) (tgt := 143) dX13_canWin_135 rfl rfl (fun hc => ?_) (fun hc => ?_)
      · have hk := (z_ite hk).1 hc
        have hsc := hsc.1 hc
        obtain ⟨g_4, hsc⟩ := hsc
        refine z_aload_n (q := 144) (i := 0) (x := a0) dX13_canWin_143 rfl rfl rfl ?_
        refine z_get 11 10 (q := 147) (v := .ref (a0 + 6)) rfl (z_lt rfl) (z_L11_T g_3) q1768 dX13_canWin_144 rfl (z_fvR (fun _ _ _ => rfl) (z_L11_P10 g_3)) ?_
        refine z_iconst (q := 148) (v := 1) dX13_canWin_147 rfl rfl ?_
        refine z_iald (q := 149) (n := 420) (z_L11_A10 g_3) g_4 dX13_canWin_148 rfl ?_
        exact hk
      · have hk := (z_ite hk).2 hc
        have hsc := hsc.2 hc
        refine z_iload (q := 140) (i := 5) (x := x5) dX13_canWin_138 rfl rfl ?_
        refine z_goto (q := 149) dX13_canWin_140 rfl ?_
        exact hk
  refine z_if_eq (q := 106) (tgt := 110) dX13_canWin_103 rfl rfl (fun hc => ?_) (fun hc => ?_)
  · have hk := (z_ite hk).1 hc
    refine z_iconst (q := 111) (v := 1) dX13_canWin_110 rfl rfl ?_
    exact hk
  · have hk := (z_ite hk).2 hc
    refine z_iconst (q := 107) (v := 5) dX13_canWin_106 rfl rfl ?_
    refine z_goto (q := 111) dX13_canWin_107 rfl ?_
    exact hk

theorem b_X13_canWin_11 {l : Launch} {G : z_G} {d : Nat} {a0 : Nat} {x1 : Int32} {x3 : Int32} {x4 : Int32} {h : z_H} {Q : z_Q}  (hf : (x3 ≤ x4 → z_L11 h a0 ∧ vp_in (x1 + 8) 16560 ∧ Q (some (.int (if (h.I (a0 + 16) (Int32.toNatClampNeg (x1 + 8))) = 0 then 1 else 0))) (h.sI a0 54 x3)) ∧ (¬ x3 ≤ x4 → z_L11 h a0 ∧ vp_in (x1 + 8) 16560 ∧ ((h.I (a0 + 16) (Int32.toNatClampNeg (x1 + 8))) = 0 → vp_in x4 8 ∧ vp_in x4 8 ∧ z_V l G (m_X13_canWin (d + 1)) (z_Fm G (m_X13_canWin (d + 1)) Q) 0 0 (h.sI (a0 + 32) (Int32.toNatClampNeg x4) (h.I (a0 + 31) (Int32.toNatClampNeg x4))) 11 [some (.ref a0), some (.int x1), none, some (.int x3), some (.int (x4 + 1)), none] []) ∧ (¬ (h.I (a0 + 16) (Int32.toNatClampNeg (x1 + 8))) = 0 → vp_in (x1 + 8) 16560 ∧ Q (some (.int (if (h.I (a0 + 16) (Int32.toNatClampNeg (x1 + 8))) = 0 then 1 else 0))) (h.sI a0 54 x3)))) : z_V l G (m_X13_canWin (d + 1)) (z_Fm G (m_X13_canWin (d + 1)) Q) 0 0 h 11 [some (.ref a0), some (.int x1), none, some (.int x3), some (.int x4), none] [] := by
  refine z_iload (q := 13) (i := 4) (x := x4) dX13_canWin_11 rfl rfl ?_
  refine z_iload_n (q := 14) (i := 3) (x := x3) dX13_canWin_13 rfl rfl rfl ?_
  refine z_icmp_ge (q := 17) (tgt := 49) dX13_canWin_14 rfl rfl (fun hc => ?_) (fun hc => ?_)
  · have hf := hf.1 hc
    refine z_aload_n (q := 50) (i := 0) (x := a0) dX13_canWin_49 rfl rfl rfl ?_
    refine z_iload_n (q := 51) (i := 3) (x := x3) dX13_canWin_50 rfl rfl rfl ?_
    obtain ⟨g_1, hf⟩ := hf
    refine z_putI 11 54 (q := 54) (x := x3) (v := .int x3) rfl (z_lt rfl) (z_L11_T g_1) q1812 rfl dX13_canWin_51 rfl rfl rfl rfl (fun _ _ _ => rfl) ?_
    refine z_aload_n (q := 55) (i := 0) (x := a0) dX13_canWin_54 rfl rfl rfl ?_
    refine z_get 11 22 (q := 58) (v := .ref (a0 + 16)) rfl (z_lt rfl) (z_L11_T g_1) q1780 dX13_canWin_55 rfl (z_fvR (fun _ _ _ => rfl) (z_L11_P22 g_1)) ?_
    refine z_iload_n (q := 59) (i := 1) (x := x1) dX13_canWin_58 rfl rfl rfl ?_
    refine z_bipush (q := 61) (v := 8) dX13_canWin_59 (by decide) rfl ?_
    refine z_iadd (q := 62) dX13_canWin_61 rfl ?_
    obtain ⟨g_2, hf⟩ := hf
    refine z_iald (q := 63) (n := 16560) (z_L11_A22 g_1) g_2 dX13_canWin_62 rfl ?_
    refine z_topI (z_rIa (by omega)) ?_
    have hk : z_V l G (m_X13_canWin (d + 1)) (z_Fm G (m_X13_canWin (d + 1)) Q) 0 0 (h.sI a0 54 x3) 71 [some (.ref a0), some (.int x1), none, some (.int x3), some (.int x4), none] [.int (if (h.I (a0 + 16) (Int32.toNatClampNeg (x1 + 8))) = 0 then 1 else 0)] := by
      exact z_zret dX13_canWin_71 rfl (z_nb01 (z_bif z_b1 z_b0)) hf
    refine z_if_ne (q := 66) (tgt := 70) dX13_canWin_63 rfl rfl (fun hc => ?_) (fun hc => ?_)
    · have hk := (z_ite hk).2 hc
      refine z_iconst (q := 71) (v := 0) dX13_canWin_70 rfl rfl ?_
      exact hk
    · have hk := (z_ite hk).1 hc
      refine z_iconst (q := 67) (v := 1) dX13_canWin_66 rfl rfl ?_
      refine z_goto (q := 71) dX13_canWin_67 rfl ?_
      exact hk
  · have hf := hf.2 hc
    refine z_aload_n (q := 18) (i := 0) (x := a0) dX13_canWin_17 rfl rfl rfl ?_
    obtain ⟨g_3, hf⟩ := hf
    refine z_get 11 22 (q := 21) (v := .ref (a0 + 16)) rfl (z_lt rfl) (z_L11_T g_3) q1780 dX13_canWin_18 rfl (z_fvR (fun _ _ _ => rfl) (z_L11_P22 g_3)) ?_
    refine z_iload_n (q := 22) (i := 1) (x := x1) dX13_canWin_21 rfl rfl rfl ?_
    refine z_bipush (q := 24) (v := 8) dX13_canWin_22 (by decide) rfl ?_
    refine z_iadd (q := 25) dX13_canWin_24 rfl ?_
    obtain ⟨g_4, hf⟩ := hf
    refine z_iald (q := 26) (n := 16560) (z_L11_A22 g_3) g_4 dX13_canWin_25 rfl ?_
    refine z_if_ne (q := 29) (tgt := 49) dX13_canWin_26 rfl rfl (fun hc => ?_) (fun hc => ?_)
    · have hf := hf.2 hc
      refine z_aload_n (q := 50) (i := 0) (x := a0) dX13_canWin_49 rfl rfl rfl ?_
      refine z_iload_n (q := 51) (i := 3) (x := x3) dX13_canWin_50 rfl rfl rfl ?_
      refine z_putI 11 54 (q := 54) (x := x3) (v := .int x3) rfl (z_lt rfl) (z_L11_T g_3) q1812 rfl dX13_canWin_51 rfl rfl rfl rfl (fun _ _ _ => rfl) ?_
      refine z_aload_n (q := 55) (i := 0) (x := a0) dX13_canWin_54 rfl rfl rfl ?_
      refine z_get 11 22 (q := 58) (v := .ref (a0 + 16)) rfl (z_lt rfl) (z_L11_T g_3) q1780 dX13_canWin_55 rfl (z_fvR (fun _ _ _ => rfl) (z_L11_P22 g_3)) ?_
      refine z_iload_n (q := 59) (i := 1) (x := x1) dX13_canWin_58 rfl rfl rfl ?_
      refine z_bipush (q := 61) (v := 8) dX13_canWin_59 (by decide) rfl ?_
      refine z_iadd (q := 62) dX13_canWin_61 rfl ?_
      obtain ⟨g_5, hf⟩ := hf
      refine z_iald (q := 63) (n := 16560) (z_L11_A22 g_3) g_5 dX13_canWin_62 rfl ?_
      refine z_topI (z_rIa (by omega)) ?_
      have hk : z_V l G (m_X13_canWin (d + 1)) (z_Fm G (m_X13_canWin (d + 1)) Q) 0 0 (h.sI a0 54 x3) 71 [some (.ref a0), some (.int x1), none, some (.int x3), some (.int x4), none] [.int (if (h.I (a0 + 16) (Int32.toNatClampNeg (x1 + 8))) = 0 then 1 else 0)] := by
        exact z_zret dX13_canWin_71 rfl (z_nb01 (z_bif z_b1 z_b0)) hf
      refine z_if_ne (q := 66) (tgt := 70) dX13_canWin_63 rfl rfl (fun hc => ?_) (fun hc => ?_)
      · have hk := (z_ite hk).2 hc
        refine z_iconst (q := 71) (v := 0) dX13_canWin_70 rfl rfl ?_
        exact hk
      · have hk := (z_ite hk).1 hc
        refine z_iconst (q := 67) (v := 1) dX13_canWin_66 rfl rfl ?_
        refine z_goto (q := 71) dX13_canWin_67 rfl ?_
        exact hk
    · have hf := hf.1 hc
      refine z_aload_n (q := 30) (i := 0) (x := a0) dX13_canWin_29 rfl rfl rfl ?_
      refine z_get 11 53 (q := 33) (v := .ref (a0 + 32)) rfl (z_lt rfl) (z_L11_T g_3) q1811 dX13_canWin_30 rfl (z_fvR (fun _ _ _ => rfl) (z_L11_P53 g_3)) ?_
      refine z_iload (q := 35) (i := 4) (x := x4) dX13_canWin_33 rfl rfl ?_
      refine z_aload_n (q := 36) (i := 0) (x := a0) dX13_canWin_35 rfl rfl rfl ?_
      refine z_get 11 52 (q := 39) (v := .ref (a0 + 31)) rfl (z_lt rfl) (z_L11_T g_3) q1810 dX13_canWin_36 rfl (z_fvR (fun _ _ _ => rfl) (z_L11_P52 g_3)) ?_
      refine z_iload (q := 41) (i := 4) (x := x4) dX13_canWin_39 rfl rfl ?_
      obtain ⟨g_6, hf⟩ := hf
      refine z_iald (q := 42) (n := 8) (z_L11_A52 g_3) g_6 dX13_canWin_41 rfl ?_
      obtain ⟨g_7, hf⟩ := hf
      refine z_iast (q := 43) (n := 8) (z_L11_A53 g_3) g_7 dX13_canWin_42 rfl ?_
      refine z_iinc (q := 46) (i := 4) (x := x4) (v := (x4 + 1)) (ls2 := [some (.ref a0), some (.int x1), none, some (.int x3), some (.int (x4 + 1)), none]) dX13_canWin_43 rfl rfl (z_lt rfl) rfl rfl ?_
      refine z_goto (q := 11) dX13_canWin_46 rfl ?_
      exact hf

theorem u_X13_card {l : Launch} {G : z_G} {a0 : Nat} {x1 : Int32} {x2 : Int32} {h : z_H} {Q : z_Q} (hst : l.stackTraces = false)  (hf : z_L11 h a0 ∧ z_Ct l G m_X13_isSide [.int x1] (h.sI a0 0 0) (z_Qi (fun x_2 h_3 => (x_2 = 0 → Q (some (.int (-1))) h_3) ∧ (¬ x_2 = 0 → (x2 < 0 → Q (some (.int (-1))) h_3) ∧ (¬ x2 < 0 → z_L11 h_3 a0 ∧ vp_in (0 + x1) 16560 ∧ ((h_3.I (a0 + 16) (Int32.toNatClampNeg (0 + x1))) ≤ x2 → Q (some (.int (-1))) h_3) ∧ (¬ (h_3.I (a0 + 16) (Int32.toNatClampNeg (0 + x1))) ≤ x2 → vp_in ((20 + (48 * x1)) + x2) 16560 ∧ Q (some (.int ((h_3.I (a0 + 16) (Int32.toNatClampNeg ((20 + (48 * x1)) + x2))) - (h_3.I (a0 + 16) (Int32.toNatClampNeg ((20 + (48 * x1)) + x2))) / 8 * 8))) h_3)))))) : z_Ct l G m_X13_card [.ref a0, .int x1, .int x2] h Q := by
  refine z_Ct.of (ls := [some (.ref a0), some (.int x1), some (.int x2)]) hst rfl (by show plainName yX13_card.cls = true; decide +kernel) (z_le rfl) rfl ?_
  show z_V l G m_X13_card (z_Fm G m_X13_card Q) 0 0 h 0 [some (.ref a0), some (.int x1), some (.int x2)] []
  refine z_aload_n (q := 1) (i := 0) (x := a0) dX13_card_0 rfl rfl rfl ?_
  refine z_iconst (q := 2) (v := 0) dX13_card_1 rfl rfl ?_
  obtain ⟨g_1, hf⟩ := hf
  refine z_putI 11 0 (q := 5) (x := 0) (v := .int 0) rfl (z_lt rfl) (z_L11_T g_1) q1758 rfl dX13_card_2 rfl rfl rfl rfl (fun _ _ _ => rfl) ?_
  refine z_iload_n (q := 6) (i := 1) (x := x1) dX13_card_5 rfl rfl rfl ?_
  refine z_cSi m_X13_isSide [.int x1] (q := 9) (rc2 := 0) (rs2 := 0) (st := []) dX13_card_6 rfl q2085 oS_X13_isSide rfl rfl ⟨z_le rfl, z_le rfl⟩ (z_le rfl) rfl  rfl hf (fun x_2 h_3 hf => ?_)
  refine z_if_eq (q := 12) (tgt := 48) dX13_card_9 rfl rfl (fun hc => ?_) (fun hc => ?_)
  · have hf := hf.1 hc
    refine z_iconst (q := 49) (v := (-1)) dX13_card_48 rfl rfl ?_
    exact z_iret dX13_card_49 rfl hf
  · have hf := hf.2 hc
    refine z_iload_n (q := 13) (i := 2) (x := x2) dX13_card_12 rfl rfl rfl ?_
    refine z_if_lt (q := 16) (tgt := 48) dX13_card_13 rfl rfl (fun hc => ?_) (fun hc => ?_)
    · have hf := hf.1 hc
      refine z_iconst (q := 49) (v := (-1)) dX13_card_48 rfl rfl ?_
      exact z_iret dX13_card_49 rfl hf
    · have hf := hf.2 hc
      refine z_iload_n (q := 17) (i := 2) (x := x2) dX13_card_16 rfl rfl rfl ?_
      refine z_aload_n (q := 18) (i := 0) (x := a0) dX13_card_17 rfl rfl rfl ?_
      obtain ⟨g_10, hf⟩ := hf
      refine z_get 11 22 (q := 21) (v := .ref (a0 + 16)) rfl (z_lt rfl) (z_L11_T g_10) q1780 dX13_card_18 rfl (z_fvR (fun _ _ _ => rfl) (z_L11_P22 g_10)) ?_
      refine z_iconst (q := 22) (v := 0) dX13_card_21 rfl rfl ?_
      refine z_iload_n (q := 23) (i := 1) (x := x1) dX13_card_22 rfl rfl rfl ?_
      refine z_iadd (q := 24) dX13_card_23 rfl ?_
      obtain ⟨g_11, hf⟩ := hf
      refine z_iald (q := 25) (n := 16560) (z_L11_A22 g_10) g_11 dX13_card_24 rfl ?_
      refine z_icmp_ge (q := 28) (tgt := 48) dX13_card_25 rfl rfl (fun hc => ?_) (fun hc => ?_)
      · have hf := hf.1 hc
        refine z_iconst (q := 49) (v := (-1)) dX13_card_48 rfl rfl ?_
        exact z_iret dX13_card_49 rfl hf
      · have hf := hf.2 hc
        refine z_aload_n (q := 29) (i := 0) (x := a0) dX13_card_28 rfl rfl rfl ?_
        refine z_get 11 22 (q := 32) (v := .ref (a0 + 16)) rfl (z_lt rfl) (z_L11_T g_10) q1780 dX13_card_29 rfl (z_fvR (fun _ _ _ => rfl) (z_L11_P22 g_10)) ?_
        refine z_bipush (q := 34) (v := 20) dX13_card_32 (by decide) rfl ?_
        refine z_bipush (q := 36) (v := 48) dX13_card_34 (by decide) rfl ?_
        refine z_iload_n (q := 37) (i := 1) (x := x1) dX13_card_36 rfl rfl rfl ?_
        refine z_imul (q := 38) dX13_card_37 rfl ?_
        refine z_iadd (q := 39) dX13_card_38 rfl ?_
        refine z_iload_n (q := 40) (i := 2) (x := x2) dX13_card_39 rfl rfl rfl ?_
        refine z_iadd (q := 41) dX13_card_40 rfl ?_
        obtain ⟨g_13, hf⟩ := hf
        refine z_iald (q := 42) (n := 16560) (z_L11_A22 g_10) g_13 dX13_card_41 rfl ?_
        refine z_bipush (q := 44) (v := 8) dX13_card_42 (by decide) rfl ?_
        refine z_irem (q := 45) dX13_card_44 (by decide) rfl ?_
        refine z_goto (q := 49) dX13_card_45 rfl ?_
        exact z_iret dX13_card_49 rfl hf

theorem u_X13_cards {l : Launch} {G : z_G} {a0 : Nat} {x1 : Int32} {h : z_H} {Q : z_Q} (hst : l.stackTraces = false)  (hf : z_V l G m_X13_cards (z_Fm G m_X13_cards Q) 0 0 h 4 [some (.ref a0), some (.int x1), some (.int 0), some (.int 0)] []) : z_Ct l G m_X13_cards [.ref a0, .int x1] h Q := by
  refine z_Ct.of (ls := [some (.ref a0), some (.int x1), none, none]) hst rfl (by show plainName yX13_cards.cls = true; decide +kernel) (z_le rfl) rfl ?_
  show z_V l G m_X13_cards (z_Fm G m_X13_cards Q) 0 0 h 0 [some (.ref a0), some (.int x1), none, none] []
  refine z_iconst (q := 1) (v := 0) dX13_cards_0 rfl rfl ?_
  refine z_istore_n (q := 2) (i := 2) (ls2 := [some (.ref a0), some (.int x1), some (.int 0), none]) (x := 0) dX13_cards_1 rfl (z_lt rfl) rfl rfl ?_
  refine z_iconst (q := 3) (v := 0) dX13_cards_2 rfl rfl ?_
  refine z_istore_n (q := 4) (i := 3) (ls2 := [some (.ref a0), some (.int x1), some (.int 0), some (.int 0)]) (x := 0) dX13_cards_3 rfl (z_lt rfl) rfl rfl ?_
  exact hf

theorem b_X13_cards_4 {l : Launch} {G : z_G} {a0 : Nat} {x1 : Int32} {x2 : Int32} {x3 : Int32} {h : z_H} {Q : z_Q}  (hf : (8 ≤ x3 → Q (some (.int x2)) h) ∧ (¬ 8 ≤ x3 → z_L11 h a0 ∧ vp_in (((x1 + 5) + (2 * x3)) + 1) 420 ∧ ∀ v_3 : Int32, v_3 = (x2 + (h.I (a0 + 6) (Int32.toNatClampNeg (((x1 + 5) + (2 * x3)) + 1)))) → z_V l G m_X13_cards (z_Fm G m_X13_cards Q) 0 0 h 4 [some (.ref a0), some (.int x1), some (.int v_3), some (.int (x3 + 1))] [])) : z_V l G m_X13_cards (z_Fm G m_X13_cards Q) 0 0 h 4 [some (.ref a0), some (.int x1), some (.int x2), some (.int x3)] [] := by
  refine z_iload_n (q := 5) (i := 3) (x := x3) dX13_cards_4 rfl rfl rfl ?_
  refine z_bipush (q := 7) (v := 8) dX13_cards_5 (by decide) rfl ?_
  refine z_icmp_ge (q := 10) (tgt := 33) dX13_cards_7 rfl rfl (fun hc => ?_) (fun hc => ?_)
  · have hf := hf.1 hc
    refine z_iload_n (q := 34) (i := 2) (x := x2) dX13_cards_33 rfl rfl rfl ?_
    exact z_iret dX13_cards_34 rfl hf
  · have hf := hf.2 hc
    refine z_iload_n (q := 11) (i := 2) (x := x2) dX13_cards_10 rfl rfl rfl ?_
    refine z_aload_n (q := 12) (i := 0) (x := a0) dX13_cards_11 rfl rfl rfl ?_
    obtain ⟨g_1, hf⟩ := hf
    refine z_get 11 10 (q := 15) (v := .ref (a0 + 6)) rfl (z_lt rfl) (z_L11_T g_1) q1768 dX13_cards_12 rfl (z_fvR (fun _ _ _ => rfl) (z_L11_P10 g_1)) ?_
    refine z_iload_n (q := 16) (i := 1) (x := x1) dX13_cards_15 rfl rfl rfl ?_
    refine z_iconst (q := 17) (v := 5) dX13_cards_16 rfl rfl ?_
    refine z_iadd (q := 18) dX13_cards_17 rfl ?_
    refine z_iconst (q := 19) (v := 2) dX13_cards_18 rfl rfl ?_
    refine z_iload_n (q := 20) (i := 3) (x := x3) dX13_cards_19 rfl rfl rfl ?_
    refine z_imul (q := 21) dX13_cards_20 rfl ?_
    refine z_iadd (q := 22) dX13_cards_21 rfl ?_
    refine z_iconst (q := 23) (v := 1) dX13_cards_22 rfl rfl ?_
    refine z_iadd (q := 24) dX13_cards_23 rfl ?_
    obtain ⟨g_2, hf⟩ := hf
    refine z_iald (q := 25) (n := 420) (z_L11_A10 g_1) g_2 dX13_cards_24 rfl ?_
    refine z_iadd (q := 26) dX13_cards_25 rfl ?_
    refine z_nmI (fun v_3 hv_4 => ?_)
    have hf := hf v_3 hv_4
    refine z_istore_n (q := 27) (i := 2) (ls2 := [some (.ref a0), some (.int x1), some (.int v_3), some (.int x3)]) (x := v_3) dX13_cards_26 rfl (z_lt rfl) rfl rfl ?_
    refine z_iinc (q := 30) (i := 3) (x := x3) (v := (x3 + 1)) (ls2 := [some (.ref a0), some (.int x1), some (.int v_3), some (.int (x3 + 1))]) dX13_cards_27 rfl rfl (z_lt rfl) rfl rfl ?_
    refine z_goto (q := 4) dX13_cards_30 rfl ?_
    exact hf

theorem u_X13_choice {l : Launch} {G : z_G} {a0 : Nat} {x1 : Int32} {x2 : Int32} {h : z_H} {Q : z_Q} (hst : l.stackTraces = false)  (hf : z_L11 h a0 ∧ z_Ct l G m_X13_within [.int x1, .int 1, .int 6] (h.sI a0 0 0) (z_Qi (fun x_2 h_3 => (x_2 = 0 → Q (some (.int (-1))) h_3) ∧ (¬ x_2 = 0 → (x2 < (-1) → Q (some (.int (-1))) h_3) ∧ (¬ x2 < (-1) → z_L11 h_3 a0 ∧ vp_in 11 16560 ∧ ((h_3.I (a0 + 16) (Int32.toNatClampNeg 11)) = 1 → Q (some (.int (-1))) h_3) ∧ (¬ (h_3.I (a0 + 16) (Int32.toNatClampNeg 11)) = 1 → z_Ct l G m_X13_findChoice [.ref a0, .int x1] h_3 (z_Qi (fun x_6 h_7 => z_L11 h_7 a0 ∧ ((x_6 < 0 → True) ∧ (¬ x_6 < 0 → (x2 = (-1) → True) ∧ (¬ x2 = (-1) → ((h_7.I a0 54) ≤ x2 → True) ∧ (¬ (h_7.I a0 54) ≤ x2 → vp_in x2 8 ∧ True)))) ∧ Q (some (.int (if x_6 < 0 then x_6 else (if x2 = (-1) then x_6 else (if (h_7.I a0 54) ≤ x2 then (-1) else (h_7.I (a0 + 32) (Int32.toNatClampNeg x2))))))) h_7)))))))) : z_Ct l G m_X13_choice [.ref a0, .int x1, .int x2] h Q := by
  refine z_Ct.of (ls := [some (.ref a0), some (.int x1), some (.int x2), none]) hst rfl (by show plainName yX13_choice.cls = true; decide +kernel) (z_le rfl) rfl ?_
  show z_V l G m_X13_choice (z_Fm G m_X13_choice Q) 0 0 h 0 [some (.ref a0), some (.int x1), some (.int x2), none] []
  refine z_aload_n (q := 1) (i := 0) (x := a0) dX13_choice_0 rfl rfl rfl ?_
  refine z_iconst (q := 2) (v := 0) dX13_choice_1 rfl rfl ?_
  obtain ⟨g_1, hf⟩ := hf
  refine z_putI 11 0 (q := 5) (x := 0) (v := .int 0) rfl (z_lt rfl) (z_L11_T g_1) q1758 rfl dX13_choice_2 rfl rfl rfl rfl (fun _ _ _ => rfl) ?_
  refine z_iload_n (q := 6) (i := 1) (x := x1) dX13_choice_5 rfl rfl rfl ?_
  refine z_iconst (q := 7) (v := 1) dX13_choice_6 rfl rfl ?_
  refine z_bipush (q := 9) (v := 6) dX13_choice_7 (by decide) rfl ?_
  refine z_cSi m_X13_within [.int x1, .int 1, .int 6] (q := 12) (rc2 := 0) (rs2 := 0) (st := []) dX13_choice_9 rfl q2074 oS_X13_within rfl rfl ⟨z_le rfl, z_le rfl⟩ (z_le rfl) rfl  rfl hf (fun x_2 h_3 hf => ?_)
  refine z_if_eq (q := 15) (tgt := 31) dX13_choice_12 rfl rfl (fun hc => ?_) (fun hc => ?_)
  · have hf := hf.1 hc
    refine z_iconst (q := 32) (v := (-1)) dX13_choice_31 rfl rfl ?_
    exact z_iret dX13_choice_32 rfl hf
  · have hf := hf.2 hc
    refine z_iload_n (q := 16) (i := 2) (x := x2) dX13_choice_15 rfl rfl rfl ?_
    refine z_iconst (q := 17) (v := (-1)) dX13_choice_16 rfl rfl ?_
    refine z_icmp_lt (q := 20) (tgt := 31) dX13_choice_17 rfl rfl (fun hc => ?_) (fun hc => ?_)
    · have hf := hf.1 hc
      refine z_iconst (q := 32) (v := (-1)) dX13_choice_31 rfl rfl ?_
      exact z_iret dX13_choice_32 rfl hf
    · have hf := hf.2 hc
      refine z_aload_n (q := 21) (i := 0) (x := a0) dX13_choice_20 rfl rfl rfl ?_
      obtain ⟨g_4, hf⟩ := hf
      refine z_get 11 22 (q := 24) (v := .ref (a0 + 16)) rfl (z_lt rfl) (z_L11_T g_4) q1780 dX13_choice_21 rfl (z_fvR (fun _ _ _ => rfl) (z_L11_P22 g_4)) ?_
      refine z_bipush (q := 26) (v := 11) dX13_choice_24 (by decide) rfl ?_
      obtain ⟨g_5, hf⟩ := hf
      refine z_iald (q := 27) (n := 16560) (z_L11_A22 g_4) g_5 dX13_choice_26 rfl ?_
      refine z_iconst (q := 28) (v := 1) dX13_choice_27 rfl rfl ?_
      refine z_icmp_ne (q := 31) (tgt := 33) dX13_choice_28 rfl rfl (fun hc => ?_) (fun hc => ?_)
      · have hf := hf.2 hc
        refine z_aload_n (q := 34) (i := 0) (x := a0) dX13_choice_33 rfl rfl rfl ?_
        refine z_iload_n (q := 35) (i := 1) (x := x1) dX13_choice_34 rfl rfl rfl ?_
        refine z_cVi m_X13_findChoice [.int x1] (a0) (q := 38) (rc2 := 0) (rs2 := 0) (st := []) dX13_choice_35 rfl q2281 oV_X13_findChoice rfl rfl ⟨z_le rfl, z_le rfl⟩ (z_le rfl) (z_rcv_of 11 rfl (z_L11_T g_4) rfl) rfl  rfl hf (fun x_6 h_7 hf => ?_)
        refine z_istore_n (q := 39) (i := 3) (ls2 := [some (.ref a0), some (.int x1), some (.int x2), some (.int x_6)]) (x := x_6) dX13_choice_38 rfl (z_lt rfl) rfl rfl ?_
        refine z_iload_n (q := 40) (i := 3) (x := x_6) dX13_choice_39 rfl rfl rfl ?_
        obtain ⟨g_8, hf⟩ := hf
        obtain ⟨hsc, hf⟩ := hf
        have hk : z_V l G m_X13_choice (z_Fm G m_X13_choice Q) 0 0 h_7 70 [some (.ref a0), some (.int x1), some (.int x2), some (.int x_6)] [.int (if x_6 < 0 then x_6 else (if x2 = (-1) then x_6 else (if (h_7.I a0 54) ≤ x2 then (-1) else (h_7.I (a0 + 32) (Int32.toNatClampNeg x2)))))] := by
          exact z_iret dX13_choice_70 rfl hf
        refine z_if_lt (q := 43) (tgt := 48) dX13_choice_40 rfl rfl (fun hc => ?_) (fun hc => ?_)
        · have hk := (z_ite hk).1 hc
          have hsc := hsc.1 hc
          refine z_iload_n (q := 49) (i := 3) (x := x_6) dX13_choice_48 rfl rfl rfl ?_
          refine z_goto (q := 70) dX13_choice_49 rfl ?_
          exact hk
        · have hk := (z_ite hk).2 hc
          have hsc := hsc.2 hc
          refine z_iload_n (q := 44) (i := 2) (x := x2) dX13_choice_43 rfl rfl rfl ?_
          refine z_iconst (q := 45) (v := (-1)) dX13_choice_44 rfl rfl ?_
          refine z_icmp_ne (q := 48) (tgt := 52) dX13_choice_45 rfl rfl (fun hc => ?_) (fun hc => ?_)
          · have hk := (z_ite hk).2 hc
            have hsc := hsc.2 hc
            refine z_iload_n (q := 53) (i := 2) (x := x2) dX13_choice_52 rfl rfl rfl ?_
            refine z_aload_n (q := 54) (i := 0) (x := a0) dX13_choice_53 rfl rfl rfl ?_
            refine z_get 11 54 (q := 57) (v := .int (h_7.I a0 54)) rfl (z_lt rfl) (z_L11_T g_8) q1812 dX13_choice_54 rfl rfl ?_
            refine z_icmp_ge (q := 60) (tgt := 69) dX13_choice_57 rfl rfl (fun hc => ?_) (fun hc => ?_)
            · have hk := (z_ite hk).1 hc
              have hsc := hsc.1 hc
              refine z_iconst (q := 70) (v := (-1)) dX13_choice_69 rfl rfl ?_
              exact hk
            · have hk := (z_ite hk).2 hc
              have hsc := hsc.2 hc
              obtain ⟨g_9, hsc⟩ := hsc
              refine z_aload_n (q := 61) (i := 0) (x := a0) dX13_choice_60 rfl rfl rfl ?_
              refine z_get 11 53 (q := 64) (v := .ref (a0 + 32)) rfl (z_lt rfl) (z_L11_T g_8) q1811 dX13_choice_61 rfl (z_fvR (fun _ _ _ => rfl) (z_L11_P53 g_8)) ?_
              refine z_iload_n (q := 65) (i := 2) (x := x2) dX13_choice_64 rfl rfl rfl ?_
              refine z_iald (q := 66) (n := 8) (z_L11_A53 g_8) g_9 dX13_choice_65 rfl ?_
              refine z_goto (q := 70) dX13_choice_66 rfl ?_
              exact hk
          · have hk := (z_ite hk).1 hc
            have hsc := hsc.1 hc
            refine z_iload_n (q := 49) (i := 3) (x := x_6) dX13_choice_48 rfl rfl rfl ?_
            refine z_goto (q := 70) dX13_choice_49 rfl ?_
            exact hk
      · have hf := hf.1 hc
        refine z_iconst (q := 32) (v := (-1)) dX13_choice_31 rfl rfl ?_
        exact z_iret dX13_choice_32 rfl hf

theorem u_X13_clear {l : Launch} {G : z_G} {a0 : Nat} {h : z_H} {Q : z_Q} (hst : l.stackTraces = false)  (hf : z_L11 h a0 ∧ vp_in 13 16560 ∧ Q (some (.int 1)) ((h.sI a0 0 0).sI (a0 + 16) (Int32.toNatClampNeg 13) 0)) : z_Ct l G m_X13_clear [.ref a0] h Q := by
  refine z_Ct.of (ls := [some (.ref a0)]) hst rfl (by show plainName yX13_clear.cls = true; decide +kernel) (z_le rfl) rfl ?_
  show z_V l G m_X13_clear (z_Fm G m_X13_clear Q) 0 0 h 0 [some (.ref a0)] []
  refine z_aload_n (q := 1) (i := 0) (x := a0) dX13_clear_0 rfl rfl rfl ?_
  refine z_iconst (q := 2) (v := 0) dX13_clear_1 rfl rfl ?_
  obtain ⟨g_1, hf⟩ := hf
  refine z_putI 11 0 (q := 5) (x := 0) (v := .int 0) rfl (z_lt rfl) (z_L11_T g_1) q1758 rfl dX13_clear_2 rfl rfl rfl rfl (fun _ _ _ => rfl) ?_
  refine z_aload_n (q := 6) (i := 0) (x := a0) dX13_clear_5 rfl rfl rfl ?_
  refine z_get 11 22 (q := 9) (v := .ref (a0 + 16)) rfl (z_lt rfl) (z_L11_T g_1) q1780 dX13_clear_6 rfl (z_fvR (fun _ _ _ => rfl) (z_L11_P22 g_1)) ?_
  refine z_bipush (q := 11) (v := 13) dX13_clear_9 (by decide) rfl ?_
  refine z_iconst (q := 12) (v := 0) dX13_clear_11 rfl rfl ?_
  obtain ⟨g_2, hf⟩ := hf
  refine z_iast (q := 13) (n := 16560) (z_L11_A22 g_1) g_2 dX13_clear_12 rfl ?_
  refine z_iconst (q := 14) (v := 1) dX13_clear_13 rfl rfl ?_
  exact z_zret dX13_clear_14 rfl (z_nb01 z_b1) hf

theorem u_X13_comes {l : Launch} {G : z_G} {a0 : Nat} {x1 : Int32} {h : z_H} {Q : z_Q} (hst : l.stackTraces = false)  (hf : z_L11 h a0 ∧ z_Ct l G m_X13_isKind [.ref a0, .int x1] (h.sI a0 0 0) (z_Qi (fun x_2 h_3 => (x_2 = 0 → Q (some (.int (-1))) h_3) ∧ (¬ x_2 = 0 → z_L11 h_3 a0 ∧ vp_in 14 16560 ∧ ((h_3.I (a0 + 16) (Int32.toNatClampNeg 14)) = 0 → Q (some (.int (-1))) h_3) ∧ (¬ (h_3.I (a0 + 16) (Int32.toNatClampNeg 14)) = 0 → vp_in 13 16560 ∧ ((h_3.I (a0 + 16) (Int32.toNatClampNeg 13)) = 12 → Q (some (.int (-1))) h_3) ∧ (¬ (h_3.I (a0 + 16) (Int32.toNatClampNeg 13)) = 12 → vp_in 13 16560 ∧ vp_in 14 16560 ∧ ((h_3.I (a0 + 16) (Int32.toNatClampNeg 13)) = (h_3.I (a0 + 16) (Int32.toNatClampNeg 14)) → Q (some (.int (-1))) h_3) ∧ (¬ (h_3.I (a0 + 16) (Int32.toNatClampNeg 13)) = (h_3.I (a0 + 16) (Int32.toNatClampNeg 14)) → vp_in 13 16560 ∧ vp_in (444 + (h_3.I (a0 + 16) (Int32.toNatClampNeg 13))) 16560 ∧ vp_in 13 16560 ∧ vp_in 13 16560 ∧ vp_in 13 16560 ∧ Q (some (.int (((h_3.sI (a0 + 16) (Int32.toNatClampNeg (444 + (h_3.I (a0 + 16) (Int32.toNatClampNeg 13)))) x1).I (a0 + 16) (Int32.toNatClampNeg 13)) + 1))) ((h_3.sI (a0 + 16) (Int32.toNatClampNeg (444 + (h_3.I (a0 + 16) (Int32.toNatClampNeg 13)))) x1).sI (a0 + 16) (Int32.toNatClampNeg 13) (((h_3.sI (a0 + 16) (Int32.toNatClampNeg (444 + (h_3.I (a0 + 16) (Int32.toNatClampNeg 13)))) x1).I (a0 + 16) (Int32.toNatClampNeg 13)) + 1))))))))) : z_Ct l G m_X13_comes [.ref a0, .int x1] h Q := by
  refine z_Ct.of (ls := [some (.ref a0), some (.int x1)]) hst rfl (by show plainName yX13_comes.cls = true; decide +kernel) (z_le rfl) rfl ?_
  show z_V l G m_X13_comes (z_Fm G m_X13_comes Q) 0 0 h 0 [some (.ref a0), some (.int x1)] []
  refine z_aload_n (q := 1) (i := 0) (x := a0) dX13_comes_0 rfl rfl rfl ?_
  refine z_iconst (q := 2) (v := 0) dX13_comes_1 rfl rfl ?_
  obtain ⟨g_1, hf⟩ := hf
  refine z_putI 11 0 (q := 5) (x := 0) (v := .int 0) rfl (z_lt rfl) (z_L11_T g_1) q1758 rfl dX13_comes_2 rfl rfl rfl rfl (fun _ _ _ => rfl) ?_
  refine z_aload_n (q := 6) (i := 0) (x := a0) dX13_comes_5 rfl rfl rfl ?_
  refine z_iload_n (q := 7) (i := 1) (x := x1) dX13_comes_6 rfl rfl rfl ?_
  refine z_cVi m_X13_isKind [.int x1] (a0) (q := 10) (rc2 := 0) (rs2 := 0) (st := []) dX13_comes_7 rfl q2066 oV_X13_isKind rfl rfl ⟨z_le rfl, z_le rfl⟩ (z_le rfl) (z_rcv_of 11 rfl (z_L11_T g_1) rfl) rfl  rfl hf (fun x_2 h_3 hf => ?_)
  refine z_if_eq (q := 13) (tgt := 52) dX13_comes_10 rfl rfl (fun hc => ?_) (fun hc => ?_)
  · have hf := hf.1 hc
    refine z_iconst (q := 53) (v := (-1)) dX13_comes_52 rfl rfl ?_
    exact z_iret dX13_comes_53 rfl hf
  · have hf := hf.2 hc
    refine z_aload_n (q := 14) (i := 0) (x := a0) dX13_comes_13 rfl rfl rfl ?_
    obtain ⟨g_4, hf⟩ := hf
    refine z_get 11 22 (q := 17) (v := .ref (a0 + 16)) rfl (z_lt rfl) (z_L11_T g_4) q1780 dX13_comes_14 rfl (z_fvR (fun _ _ _ => rfl) (z_L11_P22 g_4)) ?_
    refine z_bipush (q := 19) (v := 14) dX13_comes_17 (by decide) rfl ?_
    obtain ⟨g_5, hf⟩ := hf
    refine z_iald (q := 20) (n := 16560) (z_L11_A22 g_4) g_5 dX13_comes_19 rfl ?_
    refine z_if_eq (q := 23) (tgt := 52) dX13_comes_20 rfl rfl (fun hc => ?_) (fun hc => ?_)
    · have hf := hf.1 hc
      refine z_iconst (q := 53) (v := (-1)) dX13_comes_52 rfl rfl ?_
      exact z_iret dX13_comes_53 rfl hf
    · have hf := hf.2 hc
      refine z_aload_n (q := 24) (i := 0) (x := a0) dX13_comes_23 rfl rfl rfl ?_
      refine z_get 11 22 (q := 27) (v := .ref (a0 + 16)) rfl (z_lt rfl) (z_L11_T g_4) q1780 dX13_comes_24 rfl (z_fvR (fun _ _ _ => rfl) (z_L11_P22 g_4)) ?_
      refine z_bipush (q := 29) (v := 13) dX13_comes_27 (by decide) rfl ?_
      obtain ⟨g_6, hf⟩ := hf
      refine z_iald (q := 30) (n := 16560) (z_L11_A22 g_4) g_6 dX13_comes_29 rfl ?_
      refine z_bipush (q := 32) (v := 12) dX13_comes_30 (by decide) rfl ?_
      refine z_icmp_eq (q := 35) (tgt := 52) dX13_comes_32 rfl rfl (fun hc => ?_) (fun hc => ?_)
      · have hf := hf.1 hc
        refine z_iconst (q := 53) (v := (-1)) dX13_comes_52 rfl rfl ?_
        exact z_iret dX13_comes_53 rfl hf
      · have hf := hf.2 hc
        refine z_aload_n (q := 36) (i := 0) (x := a0) dX13_comes_35 rfl rfl rfl ?_
        refine z_get 11 22 (q := 39) (v := .ref (a0 + 16)) rfl (z_lt rfl) (z_L11_T g_4) q1780 dX13_comes_36 rfl (z_fvR (fun _ _ _ => rfl) (z_L11_P22 g_4)) ?_
        refine z_bipush (q := 41) (v := 13) dX13_comes_39 (by decide) rfl ?_
        obtain ⟨g_7, hf⟩ := hf
        refine z_iald (q := 42) (n := 16560) (z_L11_A22 g_4) g_7 dX13_comes_41 rfl ?_
        refine z_aload_n (q := 43) (i := 0) (x := a0) dX13_comes_42 rfl rfl rfl ?_
        refine z_get 11 22 (q := 46) (v := .ref (a0 + 16)) rfl (z_lt rfl) (z_L11_T g_4) q1780 dX13_comes_43 rfl (z_fvR (fun _ _ _ => rfl) (z_L11_P22 g_4)) ?_
        refine z_bipush (q := 48) (v := 14) dX13_comes_46 (by decide) rfl ?_
        obtain ⟨g_8, hf⟩ := hf
        refine z_iald (q := 49) (n := 16560) (z_L11_A22 g_4) g_8 dX13_comes_48 rfl ?_
        refine z_icmp_ne (q := 52) (tgt := 54) dX13_comes_49 rfl rfl (fun hc => ?_) (fun hc => ?_)
        · have hf := hf.2 hc
          refine z_aload_n (q := 55) (i := 0) (x := a0) dX13_comes_54 rfl rfl rfl ?_
          refine z_get 11 22 (q := 58) (v := .ref (a0 + 16)) rfl (z_lt rfl) (z_L11_T g_4) q1780 dX13_comes_55 rfl (z_fvR (fun _ _ _ => rfl) (z_L11_P22 g_4)) ?_
          refine z_sipush (q := 61) (v := 444) dX13_comes_58 (by decide) rfl ?_
          refine z_aload_n (q := 62) (i := 0) (x := a0) dX13_comes_61 rfl rfl rfl ?_
          refine z_get 11 22 (q := 65) (v := .ref (a0 + 16)) rfl (z_lt rfl) (z_L11_T g_4) q1780 dX13_comes_62 rfl (z_fvR (fun _ _ _ => rfl) (z_L11_P22 g_4)) ?_
          refine z_bipush (q := 67) (v := 13) dX13_comes_65 (by decide) rfl ?_
          obtain ⟨g_9, hf⟩ := hf
          refine z_iald (q := 68) (n := 16560) (z_L11_A22 g_4) g_9 dX13_comes_67 rfl ?_
          refine z_iadd (q := 69) dX13_comes_68 rfl ?_
          refine z_iload_n (q := 70) (i := 1) (x := x1) dX13_comes_69 rfl rfl rfl ?_
          obtain ⟨g_10, hf⟩ := hf
          refine z_iast (q := 71) (n := 16560) (z_L11_A22 g_4) g_10 dX13_comes_70 rfl ?_
          refine z_aload_n (q := 72) (i := 0) (x := a0) dX13_comes_71 rfl rfl rfl ?_
          refine z_get 11 22 (q := 75) (v := .ref (a0 + 16)) rfl (z_lt rfl) (z_L11_T g_4) q1780 dX13_comes_72 rfl (z_fvR (fun _ _ _ => rfl) (z_L11_P22 g_4)) ?_
          refine z_bipush (q := 77) (v := 13) dX13_comes_75 (by decide) rfl ?_
          refine z_dup2 (q := 78) dX13_comes_77 rfl rfl rfl ?_
          obtain ⟨g_11, hf⟩ := hf
          refine z_iald (q := 79) (n := 16560) (z_L11_A22 g_4) g_11 dX13_comes_78 rfl ?_
          refine z_iconst (q := 80) (v := 1) dX13_comes_79 rfl rfl ?_
          refine z_iadd (q := 81) dX13_comes_80 rfl ?_
          obtain ⟨g_12, hf⟩ := hf
          refine z_iast (q := 82) (n := 16560) (z_L11_A22 g_4) g_12 dX13_comes_81 rfl ?_
          refine z_aload_n (q := 83) (i := 0) (x := a0) dX13_comes_82 rfl rfl rfl ?_
          refine z_get 11 22 (q := 86) (v := .ref (a0 + 16)) rfl (z_lt rfl) (z_L11_T g_4) q1780 dX13_comes_83 rfl (z_fvR (fun _ _ _ => rfl) (z_L11_P22 g_4)) ?_
          refine z_bipush (q := 88) (v := 13) dX13_comes_86 (by decide) rfl ?_
          obtain ⟨g_13, hf⟩ := hf
          refine z_iald (q := 89) (n := 16560) (z_L11_A22 g_4) g_13 dX13_comes_88 rfl ?_
          refine z_topI z_rIs ?_
          exact z_iret dX13_comes_89 rfl hf
        · have hf := hf.1 hc
          refine z_iconst (q := 53) (v := (-1)) dX13_comes_52 rfl rfl ?_
          exact z_iret dX13_comes_53 rfl hf

theorem u_X13_copies {l : Launch} {G : z_G} {a0 : Nat} {x1 : Int32} {x2 : Int32} {x3 : Int32} {h : z_H} {Q : z_Q} (hst : l.stackTraces = false)  (hf : z_V l G m_X13_copies (z_Fm G m_X13_copies Q) 0 0 h 3 [some (.ref a0), some (.int x1), some (.int x2), some (.int x3), some (.int 0)] []) : z_Ct l G m_X13_copies [.ref a0, .int x1, .int x2, .int x3] h Q := by
  refine z_Ct.of (ls := [some (.ref a0), some (.int x1), some (.int x2), some (.int x3), none]) hst rfl (by show plainName yX13_copies.cls = true; decide +kernel) (z_le rfl) rfl ?_
  show z_V l G m_X13_copies (z_Fm G m_X13_copies Q) 0 0 h 0 [some (.ref a0), some (.int x1), some (.int x2), some (.int x3), none] []
  refine z_iconst (q := 1) (v := 0) dX13_copies_0 rfl rfl ?_
  refine z_istore (q := 3) (i := 4) (ls2 := [some (.ref a0), some (.int x1), some (.int x2), some (.int x3), some (.int 0)]) (x := 0) dX13_copies_1 (z_lt rfl) rfl rfl ?_
  exact hf

theorem b_X13_copies_3 {l : Launch} {G : z_G} {a0 : Nat} {x1 : Int32} {x2 : Int32} {x3 : Int32} {x4 : Int32} {h : z_H} {Q : z_Q}  (hf : (x3 ≤ x4 → Q none h) ∧ (¬ x3 ≤ x4 → z_L11 h a0 ∧ vp_in (x1 + x4) 16560 ∧ vp_in (x2 + x4) 16560 ∧ z_V l G m_X13_copies (z_Fm G m_X13_copies Q) 0 0 (h.sI (a0 + 16) (Int32.toNatClampNeg (x2 + x4)) (h.I (a0 + 16) (Int32.toNatClampNeg (x1 + x4)))) 3 [some (.ref a0), some (.int x1), some (.int x2), some (.int x3), some (.int (x4 + 1))] [])) : z_V l G m_X13_copies (z_Fm G m_X13_copies Q) 0 0 h 3 [some (.ref a0), some (.int x1), some (.int x2), some (.int x3), some (.int x4)] [] := by
  refine z_iload (q := 5) (i := 4) (x := x4) dX13_copies_3 rfl rfl ?_
  refine z_iload_n (q := 6) (i := 3) (x := x3) dX13_copies_5 rfl rfl rfl ?_
  refine z_icmp_ge (q := 9) (tgt := 33) dX13_copies_6 rfl rfl (fun hc => ?_) (fun hc => ?_)
  · have hf := hf.1 hc
    exact z_vret dX13_copies_33 rfl hf
  · have hf := hf.2 hc
    refine z_aload_n (q := 10) (i := 0) (x := a0) dX13_copies_9 rfl rfl rfl ?_
    obtain ⟨g_1, hf⟩ := hf
    refine z_get 11 22 (q := 13) (v := .ref (a0 + 16)) rfl (z_lt rfl) (z_L11_T g_1) q1780 dX13_copies_10 rfl (z_fvR (fun _ _ _ => rfl) (z_L11_P22 g_1)) ?_
    refine z_iload_n (q := 14) (i := 2) (x := x2) dX13_copies_13 rfl rfl rfl ?_
    refine z_iload (q := 16) (i := 4) (x := x4) dX13_copies_14 rfl rfl ?_
    refine z_iadd (q := 17) dX13_copies_16 rfl ?_
    refine z_aload_n (q := 18) (i := 0) (x := a0) dX13_copies_17 rfl rfl rfl ?_
    refine z_get 11 22 (q := 21) (v := .ref (a0 + 16)) rfl (z_lt rfl) (z_L11_T g_1) q1780 dX13_copies_18 rfl (z_fvR (fun _ _ _ => rfl) (z_L11_P22 g_1)) ?_
    refine z_iload_n (q := 22) (i := 1) (x := x1) dX13_copies_21 rfl rfl rfl ?_
    refine z_iload (q := 24) (i := 4) (x := x4) dX13_copies_22 rfl rfl ?_
    refine z_iadd (q := 25) dX13_copies_24 rfl ?_
    obtain ⟨g_2, hf⟩ := hf
    refine z_iald (q := 26) (n := 16560) (z_L11_A22 g_1) g_2 dX13_copies_25 rfl ?_
    obtain ⟨g_3, hf⟩ := hf
    refine z_iast (q := 27) (n := 16560) (z_L11_A22 g_1) g_3 dX13_copies_26 rfl ?_
    refine z_iinc (q := 30) (i := 4) (x := x4) (v := (x4 + 1)) (ls2 := [some (.ref a0), some (.int x1), some (.int x2), some (.int x3), some (.int (x4 + 1))]) dX13_copies_27 rfl rfl (z_lt rfl) rfl rfl ?_
    refine z_goto (q := 3) dX13_copies_30 rfl ?_
    exact hf

theorem u_X13_count {l : Launch} {G : z_G} {a0 : Nat} {x1 : Int32} {h : z_H} {Q : z_Q} (hst : l.stackTraces = false)  (hf : z_L11 h a0 ∧ (x1 = 0 → z_Ct l G m_X13_kinds [.ref a0] (h.sI a0 0 0) (z_Qi (fun x_2 h_3 => Q (some (.int x_2)) h_3))) ∧ (x1 = 1 → z_Ct l G m_X13_cards [.ref a0, .int 0] (h.sI a0 0 0) (z_Qi (fun x_4 h_5 => Q (some (.int x_4)) h_5))) ∧ (x1 = 2 → vp_in 0 16560 ∧ Q (some (.int (h.I (a0 + 16) (Int32.toNatClampNeg 0)))) (h.sI a0 0 0)) ∧ (x1 = 3 → vp_in 1 16560 ∧ Q (some (.int (h.I (a0 + 16) (Int32.toNatClampNeg 1)))) (h.sI a0 0 0)) ∧ (x1 = 4 → vp_in 2 16560 ∧ Q (some (.int (h.I (a0 + 16) (Int32.toNatClampNeg 2)))) (h.sI a0 0 0)) ∧ (x1 = 5 → vp_in 3 16560 ∧ Q (some (.int (h.I (a0 + 16) (Int32.toNatClampNeg 3)))) (h.sI a0 0 0)) ∧ (x1 = 6 → vp_in 4 16560 ∧ Q (some (.int (h.I (a0 + 16) (Int32.toNatClampNeg 4)))) (h.sI a0 0 0)) ∧ (x1 = 7 → vp_in 4 16560 ∧ (((h.I (a0 + 16) (Int32.toNatClampNeg 4)) ≤ 0 → True) ∧ (¬ (h.I (a0 + 16) (Int32.toNatClampNeg 4)) ≤ 0 → vp_in 5 16560 ∧ True)) ∧ Q (some (.int (if (h.I (a0 + 16) (Int32.toNatClampNeg 4)) ≤ 0 then (-1) else (h.I (a0 + 16) (Int32.toNatClampNeg 5))))) (h.sI a0 0 0)) ∧ (x1 = 8 → vp_in 6 16560 ∧ Q (some (.int (h.I (a0 + 16) (Int32.toNatClampNeg 6)))) (h.sI a0 0 0)) ∧ (x1 = 9 → vp_in 7 16560 ∧ Q (some (.int (h.I (a0 + 16) (Int32.toNatClampNeg 7)))) (h.sI a0 0 0)) ∧ (x1 = 10 → vp_in 8 16560 ∧ Q (some (.int (h.I (a0 + 16) (Int32.toNatClampNeg 8)))) (h.sI a0 0 0)) ∧ (x1 = 11 → vp_in 9 16560 ∧ Q (some (.int (h.I (a0 + 16) (Int32.toNatClampNeg 9)))) (h.sI a0 0 0)) ∧ (x1 = 12 → vp_in 10 16560 ∧ Q (some (.int (h.I (a0 + 16) (Int32.toNatClampNeg 10)))) (h.sI a0 0 0)) ∧ (x1 = 13 → vp_in 21 420 ∧ Q (some (.int (h.I (a0 + 6) (Int32.toNatClampNeg 21)))) (h.sI a0 0 0)) ∧ (x1 = 14 → vp_in 13 16560 ∧ Q (some (.int (h.I (a0 + 16) (Int32.toNatClampNeg 13)))) (h.sI a0 0 0)) ∧ (x1 = 15 → Q (some (.int (h.I a0 23))) (h.sI a0 0 0)) ∧ (x1 = 16 → vp_in 3 420 ∧ Q (some (.int (h.I (a0 + 6) (Int32.toNatClampNeg 3)))) (h.sI a0 0 0)) ∧ (x1 = 17 → vp_in 1 420 ∧ Q (some (.int (h.I (a0 + 6) (Int32.toNatClampNeg 1)))) (h.sI a0 0 0)) ∧ (x1 = 18 → Q (some (.int (h.I a0 2))) (h.sI a0 0 0)) ∧ (¬ x1 = 0 ∧ ¬ x1 = 1 ∧ ¬ x1 = 2 ∧ ¬ x1 = 3 ∧ ¬ x1 = 4 ∧ ¬ x1 = 5 ∧ ¬ x1 = 6 ∧ ¬ x1 = 7 ∧ ¬ x1 = 8 ∧ ¬ x1 = 9 ∧ ¬ x1 = 10 ∧ ¬ x1 = 11 ∧ ¬ x1 = 12 ∧ ¬ x1 = 13 ∧ ¬ x1 = 14 ∧ ¬ x1 = 15 ∧ ¬ x1 = 16 ∧ ¬ x1 = 17 ∧ ¬ x1 = 18 → Q (some (.int (-1))) (h.sI a0 0 0))) : z_Ct l G m_X13_count [.ref a0, .int x1] h Q := by
  refine z_Ct.of (ls := [some (.ref a0), some (.int x1)]) hst rfl (by show plainName yX13_count.cls = true; decide +kernel) (z_le rfl) rfl ?_
  show z_V l G m_X13_count (z_Fm G m_X13_count Q) 0 0 h 0 [some (.ref a0), some (.int x1)] []
  refine z_aload_n (q := 1) (i := 0) (x := a0) dX13_count_0 rfl rfl rfl ?_
  refine z_iconst (q := 2) (v := 0) dX13_count_1 rfl rfl ?_
  obtain ⟨g_1, hf⟩ := hf
  refine z_putI 11 0 (q := 5) (x := 0) (v := .int 0) rfl (z_lt rfl) (z_L11_T g_1) q1758 rfl dX13_count_2 rfl rfl rfl rfl (fun _ _ _ => rfl) ?_
  refine z_iload_n (q := 6) (i := 1) (x := x1) dX13_count_5 rfl rfl rfl ?_
  rcases Decidable.em (x1 = 0) with hc | hc0
  · have hf := hf.1 hc
    refine z_tableIn (q := 96) dX13_count_6 (by rw [hc]; decide) (by rw [hc]; decide) (by rw [hc]; try rfl) rfl ?_
    refine z_aload_n (q := 97) (i := 0) (x := a0) dX13_count_96 rfl rfl rfl ?_
    refine z_cVi m_X13_kinds [] (a0) (q := 100) (rc2 := 0) (rs2 := 0) (st := []) dX13_count_97 rfl q2070 oV_X13_kinds rfl rfl ⟨z_le rfl, z_le rfl⟩ (z_le rfl) (z_rcv_of 11 rfl (z_L11_T g_1) rfl) rfl  rfl hf (fun x_2 h_3 hf => ?_)
    exact z_iret dX13_count_100 rfl hf
  rcases Decidable.em (x1 = 1) with hc | hc1
  · have hf := hf.2.1 hc
    refine z_tableIn (q := 101) dX13_count_6 (by rw [hc]; decide) (by rw [hc]; decide) (by rw [hc]; try rfl) rfl ?_
    refine z_aload_n (q := 102) (i := 0) (x := a0) dX13_count_101 rfl rfl rfl ?_
    refine z_iconst (q := 103) (v := 0) dX13_count_102 rfl rfl ?_
    refine z_cVi m_X13_cards [.int 0] (a0) (q := 106) (rc2 := 0) (rs2 := 0) (st := []) dX13_count_103 rfl q1990 oV_X13_cards rfl rfl ⟨z_le rfl, z_le rfl⟩ (z_le rfl) (z_rcv_of 11 rfl (z_L11_T g_1) rfl) rfl  rfl hf (fun x_4 h_5 hf => ?_)
    exact z_iret dX13_count_106 rfl hf
  rcases Decidable.em (x1 = 2) with hc | hc2
  · have hf := hf.2.2.1 hc
    refine z_tableIn (q := 107) dX13_count_6 (by rw [hc]; decide) (by rw [hc]; decide) (by rw [hc]; try rfl) rfl ?_
    refine z_aload_n (q := 108) (i := 0) (x := a0) dX13_count_107 rfl rfl rfl ?_
    refine z_get 11 22 (q := 111) (v := .ref (a0 + 16)) rfl (z_lt rfl) (z_L11_T g_1) q1780 dX13_count_108 rfl (z_fvR (fun _ _ _ => rfl) (z_L11_P22 g_1)) ?_
    refine z_iconst (q := 112) (v := 0) dX13_count_111 rfl rfl ?_
    obtain ⟨g_6, hf⟩ := hf
    refine z_iald (q := 113) (n := 16560) (z_L11_A22 g_1) g_6 dX13_count_112 rfl ?_
    refine z_topI (z_rIa (by omega)) ?_
    exact z_iret dX13_count_113 rfl hf
  rcases Decidable.em (x1 = 3) with hc | hc3
  · have hf := hf.2.2.2.1 hc
    refine z_tableIn (q := 114) dX13_count_6 (by rw [hc]; decide) (by rw [hc]; decide) (by rw [hc]; try rfl) rfl ?_
    refine z_aload_n (q := 115) (i := 0) (x := a0) dX13_count_114 rfl rfl rfl ?_
    refine z_get 11 22 (q := 118) (v := .ref (a0 + 16)) rfl (z_lt rfl) (z_L11_T g_1) q1780 dX13_count_115 rfl (z_fvR (fun _ _ _ => rfl) (z_L11_P22 g_1)) ?_
    refine z_iconst (q := 119) (v := 1) dX13_count_118 rfl rfl ?_
    obtain ⟨g_7, hf⟩ := hf
    refine z_iald (q := 120) (n := 16560) (z_L11_A22 g_1) g_7 dX13_count_119 rfl ?_
    refine z_topI (z_rIa (by omega)) ?_
    exact z_iret dX13_count_120 rfl hf
  rcases Decidable.em (x1 = 4) with hc | hc4
  · have hf := hf.2.2.2.2.1 hc
    refine z_tableIn (q := 121) dX13_count_6 (by rw [hc]; decide) (by rw [hc]; decide) (by rw [hc]; try rfl) rfl ?_
    refine z_aload_n (q := 122) (i := 0) (x := a0) dX13_count_121 rfl rfl rfl ?_
    refine z_get 11 22 (q := 125) (v := .ref (a0 + 16)) rfl (z_lt rfl) (z_L11_T g_1) q1780 dX13_count_122 rfl (z_fvR (fun _ _ _ => rfl) (z_L11_P22 g_1)) ?_
    refine z_iconst (q := 126) (v := 2) dX13_count_125 rfl rfl ?_
    obtain ⟨g_8, hf⟩ := hf
    refine z_iald (q := 127) (n := 16560) (z_L11_A22 g_1) g_8 dX13_count_126 rfl ?_
    refine z_topI (z_rIa (by omega)) ?_
    exact z_iret dX13_count_127 rfl hf
  rcases Decidable.em (x1 = 5) with hc | hc5
  · have hf := hf.2.2.2.2.2.1 hc
    refine z_tableIn (q := 128) dX13_count_6 (by rw [hc]; decide) (by rw [hc]; decide) (by rw [hc]; try rfl) rfl ?_
    refine z_aload_n (q := 129) (i := 0) (x := a0) dX13_count_128 rfl rfl rfl ?_
    refine z_get 11 22 (q := 132) (v := .ref (a0 + 16)) rfl (z_lt rfl) (z_L11_T g_1) q1780 dX13_count_129 rfl (z_fvR (fun _ _ _ => rfl) (z_L11_P22 g_1)) ?_
    refine z_iconst (q := 133) (v := 3) dX13_count_132 rfl rfl ?_
    obtain ⟨g_9, hf⟩ := hf
    refine z_iald (q := 134) (n := 16560) (z_L11_A22 g_1) g_9 dX13_count_133 rfl ?_
    refine z_topI (z_rIa (by omega)) ?_
    exact z_iret dX13_count_134 rfl hf
  rcases Decidable.em (x1 = 6) with hc | hc6
  · have hf := hf.2.2.2.2.2.2.1 hc
    refine z_tableIn (q := 135) dX13_count_6 (by rw [hc]; decide) (by rw [hc]; decide) (by rw [hc]; try rfl) rfl ?_
    refine z_aload_n (q := 136) (i := 0) (x := a0) dX13_count_135 rfl rfl rfl ?_
    refine z_get 11 22 (q := 139) (v := .ref (a0 + 16)) rfl (z_lt rfl) (z_L11_T g_1) q1780 dX13_count_136 rfl (z_fvR (fun _ _ _ => rfl) (z_L11_P22 g_1)) ?_
    refine z_iconst (q := 140) (v := 4) dX13_count_139 rfl rfl ?_
    obtain ⟨g_10, hf⟩ := hf
    refine z_iald (q := 141) (n := 16560) (z_L11_A22 g_1) g_10 dX13_count_140 rfl ?_
    refine z_topI (z_rIa (by omega)) ?_
    exact z_iret dX13_count_141 rfl hf
  rcases Decidable.em (x1 = 7) with hc | hc7
  · have hf := hf.2.2.2.2.2.2.2.1 hc
    refine z_tableIn (q := 142) dX13_count_6 (by rw [hc]; decide) (by rw [hc]; decide) (by rw [hc]; try rfl) rfl ?_
    refine z_aload_n (q := 143) (i := 0) (x := a0) dX13_count_142 rfl rfl rfl ?_
    refine z_get 11 22 (q := 146) (v := .ref (a0 + 16)) rfl (z_lt rfl) (z_L11_T g_1) q1780 dX13_count_143 rfl (z_fvR (fun _ _ _ => rfl) (z_L11_P22 g_1)) ?_
    refine z_iconst (q := 147) (v := 4) dX13_count_146 rfl rfl ?_
    obtain ⟨g_11, hf⟩ := hf
    refine z_iald (q := 148) (n := 16560) (z_L11_A22 g_1) g_11 dX13_count_147 rfl ?_
    refine z_topI (z_rIa (by omega)) ?_
    obtain ⟨hsc, hf⟩ := hf
    have hk : z_V l G m_X13_count (z_Fm G m_X13_count Q) 0 0 (h.sI a0 0 0) 161 [some (.ref a0), some (.int x1)] [.int (if (h.I (a0 + 16) (Int32.toNatClampNeg 4)) ≤ 0 then (-1) else (h.I (a0 + 16) (Int32.toNatClampNeg 5)))] := by
      exact z_iret dX13_count_161 rfl hf
    refine z_if_le (q := 151) (tgt := 160) dX13_count_148 rfl rfl (fun hc => ?_) (fun hc => ?_)
    · have hk := (z_ite hk).1 hc
      have hsc := hsc.1 hc
      refine z_iconst (q := 161) (v := (-1)) dX13_count_160 rfl rfl ?_
      exact hk
    · have hk := (z_ite hk).2 hc
      have hsc := hsc.2 hc
      obtain ⟨g_12, hsc⟩ := hsc
      refine z_aload_n (q := 152) (i := 0) (x := a0) dX13_count_151 rfl rfl rfl ?_
      refine z_get 11 22 (q := 155) (v := .ref (a0 + 16)) rfl (z_lt rfl) (z_L11_T g_1) q1780 dX13_count_152 rfl (z_fvR (fun _ _ _ => rfl) (z_L11_P22 g_1)) ?_
      refine z_iconst (q := 156) (v := 5) dX13_count_155 rfl rfl ?_
      refine z_iald (q := 157) (n := 16560) (z_L11_A22 g_1) g_12 dX13_count_156 rfl ?_
      refine z_topI (z_rIa (by omega)) ?_
      refine z_goto (q := 161) dX13_count_157 rfl ?_
      exact hk
  rcases Decidable.em (x1 = 8) with hc | hc8
  · have hf := hf.2.2.2.2.2.2.2.2.1 hc
    refine z_tableIn (q := 162) dX13_count_6 (by rw [hc]; decide) (by rw [hc]; decide) (by rw [hc]; try rfl) rfl ?_
    refine z_aload_n (q := 163) (i := 0) (x := a0) dX13_count_162 rfl rfl rfl ?_
    refine z_get 11 22 (q := 166) (v := .ref (a0 + 16)) rfl (z_lt rfl) (z_L11_T g_1) q1780 dX13_count_163 rfl (z_fvR (fun _ _ _ => rfl) (z_L11_P22 g_1)) ?_
    refine z_bipush (q := 168) (v := 6) dX13_count_166 (by decide) rfl ?_
    obtain ⟨g_13, hf⟩ := hf
    refine z_iald (q := 169) (n := 16560) (z_L11_A22 g_1) g_13 dX13_count_168 rfl ?_
    refine z_topI (z_rIa (by omega)) ?_
    exact z_iret dX13_count_169 rfl hf
  rcases Decidable.em (x1 = 9) with hc | hc9
  · have hf := hf.2.2.2.2.2.2.2.2.2.1 hc
    refine z_tableIn (q := 170) dX13_count_6 (by rw [hc]; decide) (by rw [hc]; decide) (by rw [hc]; try rfl) rfl ?_
    refine z_aload_n (q := 171) (i := 0) (x := a0) dX13_count_170 rfl rfl rfl ?_
    refine z_get 11 22 (q := 174) (v := .ref (a0 + 16)) rfl (z_lt rfl) (z_L11_T g_1) q1780 dX13_count_171 rfl (z_fvR (fun _ _ _ => rfl) (z_L11_P22 g_1)) ?_
    refine z_bipush (q := 176) (v := 7) dX13_count_174 (by decide) rfl ?_
    obtain ⟨g_14, hf⟩ := hf
    refine z_iald (q := 177) (n := 16560) (z_L11_A22 g_1) g_14 dX13_count_176 rfl ?_
    refine z_topI (z_rIa (by omega)) ?_
    exact z_iret dX13_count_177 rfl hf
  rcases Decidable.em (x1 = 10) with hc | hc10
  · have hf := hf.2.2.2.2.2.2.2.2.2.2.1 hc
    refine z_tableIn (q := 178) dX13_count_6 (by rw [hc]; decide) (by rw [hc]; decide) (by rw [hc]; try rfl) rfl ?_
    refine z_aload_n (q := 179) (i := 0) (x := a0) dX13_count_178 rfl rfl rfl ?_
    refine z_get 11 22 (q := 182) (v := .ref (a0 + 16)) rfl (z_lt rfl) (z_L11_T g_1) q1780 dX13_count_179 rfl (z_fvR (fun _ _ _ => rfl) (z_L11_P22 g_1)) ?_
    refine z_bipush (q := 184) (v := 8) dX13_count_182 (by decide) rfl ?_
    obtain ⟨g_15, hf⟩ := hf
    refine z_iald (q := 185) (n := 16560) (z_L11_A22 g_1) g_15 dX13_count_184 rfl ?_
    refine z_topI (z_rIa (by omega)) ?_
    exact z_iret dX13_count_185 rfl hf
  rcases Decidable.em (x1 = 11) with hc | hc11
  · have hf := hf.2.2.2.2.2.2.2.2.2.2.2.1 hc
    refine z_tableIn (q := 186) dX13_count_6 (by rw [hc]; decide) (by rw [hc]; decide) (by rw [hc]; try rfl) rfl ?_
    refine z_aload_n (q := 187) (i := 0) (x := a0) dX13_count_186 rfl rfl rfl ?_
    refine z_get 11 22 (q := 190) (v := .ref (a0 + 16)) rfl (z_lt rfl) (z_L11_T g_1) q1780 dX13_count_187 rfl (z_fvR (fun _ _ _ => rfl) (z_L11_P22 g_1)) ?_
    refine z_bipush (q := 192) (v := 9) dX13_count_190 (by decide) rfl ?_
    obtain ⟨g_16, hf⟩ := hf
    refine z_iald (q := 193) (n := 16560) (z_L11_A22 g_1) g_16 dX13_count_192 rfl ?_
    refine z_topI (z_rIa (by omega)) ?_
    exact z_iret dX13_count_193 rfl hf
  rcases Decidable.em (x1 = 12) with hc | hc12
  · have hf := hf.2.2.2.2.2.2.2.2.2.2.2.2.1 hc
    refine z_tableIn (q := 194) dX13_count_6 (by rw [hc]; decide) (by rw [hc]; decide) (by rw [hc]; try rfl) rfl ?_
    refine z_aload_n (q := 195) (i := 0) (x := a0) dX13_count_194 rfl rfl rfl ?_
    refine z_get 11 22 (q := 198) (v := .ref (a0 + 16)) rfl (z_lt rfl) (z_L11_T g_1) q1780 dX13_count_195 rfl (z_fvR (fun _ _ _ => rfl) (z_L11_P22 g_1)) ?_
    refine z_bipush (q := 200) (v := 10) dX13_count_198 (by decide) rfl ?_
    obtain ⟨g_17, hf⟩ := hf
    refine z_iald (q := 201) (n := 16560) (z_L11_A22 g_1) g_17 dX13_count_200 rfl ?_
    refine z_topI (z_rIa (by omega)) ?_
    exact z_iret dX13_count_201 rfl hf
  rcases Decidable.em (x1 = 13) with hc | hc13
  · have hf := hf.2.2.2.2.2.2.2.2.2.2.2.2.2.1 hc
    refine z_tableIn (q := 202) dX13_count_6 (by rw [hc]; decide) (by rw [hc]; decide) (by rw [hc]; try rfl) rfl ?_
    refine z_aload_n (q := 203) (i := 0) (x := a0) dX13_count_202 rfl rfl rfl ?_
    refine z_get 11 10 (q := 206) (v := .ref (a0 + 6)) rfl (z_lt rfl) (z_L11_T g_1) q1768 dX13_count_203 rfl (z_fvR (fun _ _ _ => rfl) (z_L11_P10 g_1)) ?_
    refine z_bipush (q := 208) (v := 21) dX13_count_206 (by decide) rfl ?_
    obtain ⟨g_18, hf⟩ := hf
    refine z_iald (q := 209) (n := 420) (z_L11_A10 g_1) g_18 dX13_count_208 rfl ?_
    refine z_topI (z_rIa (by omega)) ?_
    exact z_iret dX13_count_209 rfl hf
  rcases Decidable.em (x1 = 14) with hc | hc14
  · have hf := hf.2.2.2.2.2.2.2.2.2.2.2.2.2.2.1 hc
    refine z_tableIn (q := 210) dX13_count_6 (by rw [hc]; decide) (by rw [hc]; decide) (by rw [hc]; try rfl) rfl ?_
    refine z_aload_n (q := 211) (i := 0) (x := a0) dX13_count_210 rfl rfl rfl ?_
    refine z_get 11 22 (q := 214) (v := .ref (a0 + 16)) rfl (z_lt rfl) (z_L11_T g_1) q1780 dX13_count_211 rfl (z_fvR (fun _ _ _ => rfl) (z_L11_P22 g_1)) ?_
    refine z_bipush (q := 216) (v := 13) dX13_count_214 (by decide) rfl ?_
    obtain ⟨g_19, hf⟩ := hf
    refine z_iald (q := 217) (n := 16560) (z_L11_A22 g_1) g_19 dX13_count_216 rfl ?_
    refine z_topI (z_rIa (by omega)) ?_
    exact z_iret dX13_count_217 rfl hf
  rcases Decidable.em (x1 = 15) with hc | hc15
  · have hf := hf.2.2.2.2.2.2.2.2.2.2.2.2.2.2.2.1 hc
    refine z_tableIn (q := 218) dX13_count_6 (by rw [hc]; decide) (by rw [hc]; decide) (by rw [hc]; try rfl) rfl ?_
    refine z_aload_n (q := 219) (i := 0) (x := a0) dX13_count_218 rfl rfl rfl ?_
    refine z_get 11 23 (q := 222) (v := .int (h.I a0 23)) rfl (z_lt rfl) (z_L11_T g_1) q1781 dX13_count_219 rfl (congrArg Value.int (z_rIf (by decide))) ?_
    exact z_iret dX13_count_222 rfl hf
  rcases Decidable.em (x1 = 16) with hc | hc16
  · have hf := hf.2.2.2.2.2.2.2.2.2.2.2.2.2.2.2.2.1 hc
    refine z_tableIn (q := 223) dX13_count_6 (by rw [hc]; decide) (by rw [hc]; decide) (by rw [hc]; try rfl) rfl ?_
    refine z_aload_n (q := 224) (i := 0) (x := a0) dX13_count_223 rfl rfl rfl ?_
    refine z_get 11 10 (q := 227) (v := .ref (a0 + 6)) rfl (z_lt rfl) (z_L11_T g_1) q1768 dX13_count_224 rfl (z_fvR (fun _ _ _ => rfl) (z_L11_P10 g_1)) ?_
    refine z_iconst (q := 228) (v := 3) dX13_count_227 rfl rfl ?_
    obtain ⟨g_20, hf⟩ := hf
    refine z_iald (q := 229) (n := 420) (z_L11_A10 g_1) g_20 dX13_count_228 rfl ?_
    refine z_topI (z_rIa (by omega)) ?_
    exact z_iret dX13_count_229 rfl hf
  rcases Decidable.em (x1 = 17) with hc | hc17
  · have hf := hf.2.2.2.2.2.2.2.2.2.2.2.2.2.2.2.2.2.1 hc
    refine z_tableIn (q := 230) dX13_count_6 (by rw [hc]; decide) (by rw [hc]; decide) (by rw [hc]; try rfl) rfl ?_
    refine z_aload_n (q := 231) (i := 0) (x := a0) dX13_count_230 rfl rfl rfl ?_
    refine z_get 11 10 (q := 234) (v := .ref (a0 + 6)) rfl (z_lt rfl) (z_L11_T g_1) q1768 dX13_count_231 rfl (z_fvR (fun _ _ _ => rfl) (z_L11_P10 g_1)) ?_
    refine z_iconst (q := 235) (v := 1) dX13_count_234 rfl rfl ?_
    obtain ⟨g_21, hf⟩ := hf
    refine z_iald (q := 236) (n := 420) (z_L11_A10 g_1) g_21 dX13_count_235 rfl ?_
    refine z_topI (z_rIa (by omega)) ?_
    exact z_iret dX13_count_236 rfl hf
  rcases Decidable.em (x1 = 18) with hc | hc18
  · have hf := hf.2.2.2.2.2.2.2.2.2.2.2.2.2.2.2.2.2.2.1 hc
    refine z_tableIn (q := 237) dX13_count_6 (by rw [hc]; decide) (by rw [hc]; decide) (by rw [hc]; try rfl) rfl ?_
    refine z_aload_n (q := 238) (i := 0) (x := a0) dX13_count_237 rfl rfl rfl ?_
    refine z_get 11 2 (q := 241) (v := .int (h.I a0 2)) rfl (z_lt rfl) (z_L11_T g_1) q1760 dX13_count_238 rfl (congrArg Value.int (z_rIf (by decide))) ?_
    exact z_iret dX13_count_241 rfl hf
  have hf := hf.2.2.2.2.2.2.2.2.2.2.2.2.2.2.2.2.2.2.2 ⟨hc0, hc1, hc2, hc3, hc4, hc5, hc6, hc7, hc8, hc9, hc10, hc11, hc12, hc13, hc14, hc15, hc16, hc17, hc18⟩
  refine z_tableOut (q := 242) dX13_count_6 (z_tout 19 (by decide) (fun j hj => ?_)) rfl ?_
  · match j, hj with
    | 0, _ => exact fun z => lv_neT hc0 (a := ((0 : Nat) : Int)) (by decide) z
    | 1, _ => exact fun z => lv_neT hc1 (a := ((1 : Nat) : Int)) (by decide) z
    | 2, _ => exact fun z => lv_neT hc2 (a := ((2 : Nat) : Int)) (by decide) z
    | 3, _ => exact fun z => lv_neT hc3 (a := ((3 : Nat) : Int)) (by decide) z
    | 4, _ => exact fun z => lv_neT hc4 (a := ((4 : Nat) : Int)) (by decide) z
    | 5, _ => exact fun z => lv_neT hc5 (a := ((5 : Nat) : Int)) (by decide) z
    | 6, _ => exact fun z => lv_neT hc6 (a := ((6 : Nat) : Int)) (by decide) z
    | 7, _ => exact fun z => lv_neT hc7 (a := ((7 : Nat) : Int)) (by decide) z
    | 8, _ => exact fun z => lv_neT hc8 (a := ((8 : Nat) : Int)) (by decide) z
    | 9, _ => exact fun z => lv_neT hc9 (a := ((9 : Nat) : Int)) (by decide) z
    | 10, _ => exact fun z => lv_neT hc10 (a := ((10 : Nat) : Int)) (by decide) z
    | 11, _ => exact fun z => lv_neT hc11 (a := ((11 : Nat) : Int)) (by decide) z
    | 12, _ => exact fun z => lv_neT hc12 (a := ((12 : Nat) : Int)) (by decide) z
    | 13, _ => exact fun z => lv_neT hc13 (a := ((13 : Nat) : Int)) (by decide) z
    | 14, _ => exact fun z => lv_neT hc14 (a := ((14 : Nat) : Int)) (by decide) z
    | 15, _ => exact fun z => lv_neT hc15 (a := ((15 : Nat) : Int)) (by decide) z
    | 16, _ => exact fun z => lv_neT hc16 (a := ((16 : Nat) : Int)) (by decide) z
    | 17, _ => exact fun z => lv_neT hc17 (a := ((17 : Nat) : Int)) (by decide) z
    | 18, _ => exact fun z => lv_neT hc18 (a := ((18 : Nat) : Int)) (by decide) z
    | j + 19, hj => exact absurd hj (by omega)
  · skip
    refine z_iconst (q := 243) (v := (-1)) dX13_count_242 rfl rfl ?_
    exact z_iret dX13_count_243 rfl hf

theorem u_X13_countOf {l : Launch} {G : z_G} {a0 : Nat} {x1 : Int32} {x2 : Int32} {x3 : Int32} {h : z_H} {Q : z_Q} (hst : l.stackTraces = false)  (hf : z_V l G m_X13_countOf (z_Fm G m_X13_countOf Q) 0 0 h 6 [some (.ref a0), some (.int x1), some (.int x2), some (.int x3), some (.int 0), some (.int 0)] []) : z_Ct l G m_X13_countOf [.ref a0, .int x1, .int x2, .int x3] h Q := by
  refine z_Ct.of (ls := [some (.ref a0), some (.int x1), some (.int x2), some (.int x3), none, none]) hst rfl (by show plainName yX13_countOf.cls = true; decide +kernel) (z_le rfl) rfl ?_
  show z_V l G m_X13_countOf (z_Fm G m_X13_countOf Q) 0 0 h 0 [some (.ref a0), some (.int x1), some (.int x2), some (.int x3), none, none] []
  refine z_iconst (q := 1) (v := 0) dX13_countOf_0 rfl rfl ?_
  refine z_istore (q := 3) (i := 4) (ls2 := [some (.ref a0), some (.int x1), some (.int x2), some (.int x3), some (.int 0), none]) (x := 0) dX13_countOf_1 (z_lt rfl) rfl rfl ?_
  refine z_iconst (q := 4) (v := 0) dX13_countOf_3 rfl rfl ?_
  refine z_istore (q := 6) (i := 5) (ls2 := [some (.ref a0), some (.int x1), some (.int x2), some (.int x3), some (.int 0), some (.int 0)]) (x := 0) dX13_countOf_4 (z_lt rfl) rfl rfl ?_
  exact hf

theorem b_X13_countOf_6 {l : Launch} {G : z_G} {a0 : Nat} {x1 : Int32} {x2 : Int32} {x3 : Int32} {x4 : Int32} {x5 : Int32} {h : z_H} {Q : z_Q}  (hf : (x2 ≤ x5 → Q (some (.int x4)) h) ∧ (¬ x2 ≤ x5 → z_L11 h a0 ∧ vp_in (x1 + x5) 16560 ∧ ∀ v_3 : Int32, v_3 = (x4 + (if ((h.I (a0 + 16) (Int32.toNatClampNeg (x1 + x5))) - (h.I (a0 + 16) (Int32.toNatClampNeg (x1 + x5))) / 8 * 8) = x3 then 1 else 0)) → z_V l G m_X13_countOf (z_Fm G m_X13_countOf Q) 0 0 h 6 [some (.ref a0), some (.int x1), some (.int x2), some (.int x3), some (.int v_3), some (.int (x5 + 1))] [])) : z_V l G m_X13_countOf (z_Fm G m_X13_countOf Q) 0 0 h 6 [some (.ref a0), some (.int x1), some (.int x2), some (.int x3), some (.int x4), some (.int x5)] [] := by
  refine z_iload (q := 8) (i := 5) (x := x5) dX13_countOf_6 rfl rfl ?_
  refine z_iload_n (q := 9) (i := 2) (x := x2) dX13_countOf_8 rfl rfl rfl ?_
  refine z_icmp_ge (q := 12) (tgt := 44) dX13_countOf_9 rfl rfl (fun hc => ?_) (fun hc => ?_)
  · have hf := hf.1 hc
    refine z_iload (q := 46) (i := 4) (x := x4) dX13_countOf_44 rfl rfl ?_
    exact z_iret dX13_countOf_46 rfl hf
  · have hf := hf.2 hc
    refine z_iload (q := 14) (i := 4) (x := x4) dX13_countOf_12 rfl rfl ?_
    refine z_aload_n (q := 15) (i := 0) (x := a0) dX13_countOf_14 rfl rfl rfl ?_
    obtain ⟨g_1, hf⟩ := hf
    refine z_get 11 22 (q := 18) (v := .ref (a0 + 16)) rfl (z_lt rfl) (z_L11_T g_1) q1780 dX13_countOf_15 rfl (z_fvR (fun _ _ _ => rfl) (z_L11_P22 g_1)) ?_
    refine z_iload_n (q := 19) (i := 1) (x := x1) dX13_countOf_18 rfl rfl rfl ?_
    refine z_iload (q := 21) (i := 5) (x := x5) dX13_countOf_19 rfl rfl ?_
    refine z_iadd (q := 22) dX13_countOf_21 rfl ?_
    obtain ⟨g_2, hf⟩ := hf
    refine z_iald (q := 23) (n := 16560) (z_L11_A22 g_1) g_2 dX13_countOf_22 rfl ?_
    refine z_bipush (q := 25) (v := 8) dX13_countOf_23 (by decide) rfl ?_
    refine z_irem (q := 26) dX13_countOf_25 (by decide) rfl ?_
    refine z_iload_n (q := 27) (i := 3) (x := x3) dX13_countOf_26 rfl rfl rfl ?_
    have hk : z_V l G m_X13_countOf (z_Fm G m_X13_countOf Q) 0 0 h 35 [some (.ref a0), some (.int x1), some (.int x2), some (.int x3), some (.int x4), some (.int x5)] [.int (if ((h.I (a0 + 16) (Int32.toNatClampNeg (x1 + x5))) - (h.I (a0 + 16) (Int32.toNatClampNeg (x1 + x5))) / 8 * 8) = x3 then 1 else 0), .int x4] := by
      refine z_iadd (q := 36) dX13_countOf_35 rfl ?_
      refine z_nmI (fun v_3 hv_4 => ?_)
      have hf := hf v_3 hv_4
      refine z_istore (q := 38) (i := 4) (ls2 := [some (.ref a0), some (.int x1), some (.int x2), some (.int x3), some (.int v_3), some (.int x5)]) (x := v_3) dX13_countOf_36 (z_lt rfl) rfl rfl ?_
      refine z_iinc (q := 41) (i := 5) (x := x5) (v := (x5 + 1)) (ls2 := [some (.ref a0), some (.int x1), some (.int x2), some (.int x3), some (.int v_3), some (.int (x5 + 1))]) dX13_countOf_38 rfl rfl (z_lt rfl) rfl rfl ?_
      refine z_goto (q := 6) dX13_countOf_41 rfl ?_
      exact hf
    refine z_icmp_ne (q := 30) (tgt := 34) dX13_countOf_27 rfl rfl (fun hc => ?_) (fun hc => ?_)
    · have hk := (z_ite hk).2 hc
      refine z_iconst (q := 35) (v := 0) dX13_countOf_34 rfl rfl ?_
      exact hk
    · have hk := (z_ite hk).1 hc
      refine z_iconst (q := 31) (v := 1) dX13_countOf_30 rfl rfl ?_
      refine z_goto (q := 35) dX13_countOf_31 rfl ?_
      exact hk

theorem u_X13_counts {l : Launch} {G : z_G} {a0 : Nat} {h : z_H} {Q : z_Q} (hst : l.stackTraces = false)  (hf : z_L11 h a0 ∧ z_Ct l G m_X13_laysPack [.ref a0] h (z_Qv (fun h_2 => z_L11 h_2 a0 ∧ ((h_2.I a0 41) = 0 → (((-1) : Int32) < 0 → Q (some (.int (if ((-1) : Int32) < 0 then 0 else 1))) (h_2.sI a0 44 (-1))) ∧ (¬ ((-1) : Int32) < 0 → ((h_2.I a0 45) = 0 → z_V l G m_X13_counts (z_Fm G m_X13_counts Q) 0 0 (h_2.sI a0 44 (-1)) 60 [some (.ref a0), some (.int 0)] []) ∧ (¬ (h_2.I a0 45) = 0 → Q (some (.int (if ((-1) : Int32) < 0 then 0 else 1))) (h_2.sI a0 44 (-1))))) ∧ (¬ (h_2.I a0 41) = 0 → z_Ct l G m_X13_rowsOf [.ref a0, .ref (a0 + 26), .int (h_2.I a0 41)] h_2 (z_Qi (fun x_4 h_5 => z_L11 h_5 a0 ∧ (x_4 < 0 → Q (some (.int (if x_4 < 0 then 0 else 1))) (h_5.sI a0 44 x_4)) ∧ (¬ x_4 < 0 → ((h_5.I a0 45) = 0 → z_V l G m_X13_counts (z_Fm G m_X13_counts Q) 0 0 (h_5.sI a0 44 x_4) 60 [some (.ref a0), some (.int 0)] []) ∧ (¬ (h_5.I a0 45) = 0 → Q (some (.int (if x_4 < 0 then 0 else 1))) (h_5.sI a0 44 x_4))))))))) : z_Ct l G m_X13_counts [.ref a0] h Q := by
  refine z_Ct.of (ls := [some (.ref a0), none]) hst rfl (by show plainName yX13_counts.cls = true; decide +kernel) (z_le rfl) rfl ?_
  show z_V l G m_X13_counts (z_Fm G m_X13_counts Q) 0 0 h 0 [some (.ref a0), none] []
  refine z_aload_n (q := 1) (i := 0) (x := a0) dX13_counts_0 rfl rfl rfl ?_
  obtain ⟨g_1, hf⟩ := hf
  refine z_cVv m_X13_laysPack [] (a0) (q := 4) (rc2 := 0) (rs2 := 0) (st := []) dX13_counts_1 rfl q2194 oV_X13_laysPack rfl rfl ⟨z_le rfl, z_le rfl⟩ (z_le rfl) (z_rcv_of 11 rfl (z_L11_T g_1) rfl) rfl  rfl hf (fun h_2 hf => ?_)
  refine z_aload_n (q := 5) (i := 0) (x := a0) dX13_counts_4 rfl rfl rfl ?_
  refine z_aload_n (q := 6) (i := 0) (x := a0) dX13_counts_5 rfl rfl rfl ?_
  obtain ⟨g_3, hf⟩ := hf
  refine z_get 11 41 (q := 9) (v := .int (h_2.I a0 41)) rfl (z_lt rfl) (z_L11_T g_3) q1799 dX13_counts_6 rfl rfl ?_
  refine z_if_ne (q := 12) (tgt := 16) dX13_counts_9 rfl rfl (fun hc => ?_) (fun hc => ?_)
  · have hf := hf.2 hc
    refine z_aload_n (q := 17) (i := 0) (x := a0) dX13_counts_16 rfl rfl rfl ?_
    refine z_aload_n (q := 18) (i := 0) (x := a0) dX13_counts_17 rfl rfl rfl ?_
    refine z_get 11 40 (q := 21) (v := .ref (a0 + 26)) rfl (z_lt rfl) (z_L11_T g_3) q1798 dX13_counts_18 rfl (z_fvR (fun _ _ _ => rfl) (z_L11_P40 g_3)) ?_
    refine z_aload_n (q := 22) (i := 0) (x := a0) dX13_counts_21 rfl rfl rfl ?_
    refine z_get 11 41 (q := 25) (v := .int (h_2.I a0 41)) rfl (z_lt rfl) (z_L11_T g_3) q1799 dX13_counts_22 rfl rfl ?_
    refine z_cVi m_X13_rowsOf [.ref (a0 + 26), .int (h_2.I a0 41)] (a0) (q := 28) (rc2 := 0) (rs2 := 0) (st := [.ref a0]) dX13_counts_25 rfl q2198 oV_X13_rowsOf rfl rfl ⟨z_le rfl, z_le rfl⟩ (z_le rfl) (z_rcv_of 11 rfl (z_L11_T g_3) rfl) rfl  rfl hf (fun x_4 h_5 hf => ?_)
    obtain ⟨g_6, hf⟩ := hf
    refine z_putI 11 44 (q := 31) (x := x_4) (v := .int x_4) rfl (z_lt rfl) (z_L11_T g_6) q1802 rfl dX13_counts_28 rfl rfl rfl rfl (fun _ _ _ => rfl) ?_
    refine z_aload_n (q := 32) (i := 0) (x := a0) dX13_counts_31 rfl rfl rfl ?_
    refine z_get 11 44 (q := 35) (v := .int x_4) rfl (z_lt rfl) (z_L11_T g_6) q1802 dX13_counts_32 rfl (congrArg Value.int z_rIs) ?_
    refine z_if_lt (q := 38) (tgt := 45) dX13_counts_35 rfl rfl (fun hc => ?_) (fun hc => ?_)
    · have hf := hf.1 hc
      refine z_aload_n (q := 46) (i := 0) (x := a0) dX13_counts_45 rfl rfl rfl ?_
      refine z_get 11 44 (q := 49) (v := .int x_4) rfl (z_lt rfl) (z_L11_T g_6) q1802 dX13_counts_46 rfl (congrArg Value.int z_rIs) ?_
      have hk : z_V l G m_X13_counts (z_Fm G m_X13_counts Q) 0 0 (h_5.sI a0 44 x_4) 57 [some (.ref a0), none] [.int (if x_4 < 0 then 0 else 1)] := by
        exact z_zret dX13_counts_57 rfl (z_nb01 (z_bif z_b0 z_b1)) hf
      refine z_if_lt (q := 52) (tgt := 56) dX13_counts_49 rfl rfl (fun hc => ?_) (fun hc => ?_)
      · have hk := (z_ite hk).1 hc
        refine z_iconst (q := 57) (v := 0) dX13_counts_56 rfl rfl ?_
        exact hk
      · have hk := (z_ite hk).2 hc
        refine z_iconst (q := 53) (v := 1) dX13_counts_52 rfl rfl ?_
        refine z_goto (q := 57) dX13_counts_53 rfl ?_
        exact hk
    · have hf := hf.2 hc
      refine z_aload_n (q := 39) (i := 0) (x := a0) dX13_counts_38 rfl rfl rfl ?_
      refine z_get 11 45 (q := 42) (v := .int (h_5.I a0 45)) rfl (z_lt rfl) (z_L11_T g_6) q1803 dX13_counts_39 rfl (congrArg Value.int (z_rIf (by decide))) ?_
      refine z_if_eq (q := 45) (tgt := 58) dX13_counts_42 rfl rfl (fun hc => ?_) (fun hc => ?_)
      · have hf := hf.1 hc
        refine z_iconst (q := 59) (v := 0) dX13_counts_58 rfl rfl ?_
        refine z_istore_n (q := 60) (i := 1) (ls2 := [some (.ref a0), some (.int 0)]) (x := 0) dX13_counts_59 rfl (z_lt rfl) rfl rfl ?_
        exact hf
      · have hf := hf.2 hc
        refine z_aload_n (q := 46) (i := 0) (x := a0) dX13_counts_45 rfl rfl rfl ?_
        refine z_get 11 44 (q := 49) (v := .int x_4) rfl (z_lt rfl) (z_L11_T g_6) q1802 dX13_counts_46 rfl (congrArg Value.int z_rIs) ?_
        have hk : z_V l G m_X13_counts (z_Fm G m_X13_counts Q) 0 0 (h_5.sI a0 44 x_4) 57 [some (.ref a0), none] [.int (if x_4 < 0 then 0 else 1)] := by
          exact z_zret dX13_counts_57 rfl (z_nb01 (z_bif z_b0 z_b1)) hf
        refine z_if_lt (q := 52) (tgt := 56) dX13_counts_49 rfl rfl (fun hc => ?_) (fun hc => ?_)
        · have hk := (z_ite hk).1 hc
          refine z_iconst (q := 57) (v := 0) dX13_counts_56 rfl rfl ?_
          exact hk
        · have hk := (z_ite hk).2 hc
          refine z_iconst (q := 53) (v := 1) dX13_counts_52 rfl rfl ?_
          refine z_goto (q := 57) dX13_counts_53 rfl ?_
          exact hk
  · have hf := hf.1 hc
    refine z_iconst (q := 13) (v := (-1)) dX13_counts_12 rfl rfl ?_
    refine z_goto (q := 28) dX13_counts_13 rfl ?_
    refine z_putI 11 44 (q := 31) (x := (-1)) (v := .int (-1)) rfl (z_lt rfl) (z_L11_T g_3) q1802 rfl dX13_counts_28 rfl rfl rfl rfl (fun _ _ _ => rfl) ?_
    refine z_aload_n (q := 32) (i := 0) (x := a0) dX13_counts_31 rfl rfl rfl ?_
    refine z_get 11 44 (q := 35) (v := .int (-1)) rfl (z_lt rfl) (z_L11_T g_3) q1802 dX13_counts_32 rfl (congrArg Value.int z_rIs) ?_
    refine z_if_lt (q := 38) (tgt := 45) dX13_counts_35 rfl rfl (fun hc => ?_) (fun hc => ?_)
    · have hf := hf.1 hc
      refine z_aload_n (q := 46) (i := 0) (x := a0) dX13_counts_45 rfl rfl rfl ?_
      refine z_get 11 44 (q := 49) (v := .int (-1)) rfl (z_lt rfl) (z_L11_T g_3) q1802 dX13_counts_46 rfl (congrArg Value.int z_rIs) ?_
      have hk : z_V l G m_X13_counts (z_Fm G m_X13_counts Q) 0 0 (h_2.sI a0 44 (-1)) 57 [some (.ref a0), none] [.int (if ((-1) : Int32) < 0 then 0 else 1)] := by
        exact z_zret dX13_counts_57 rfl (z_nb01 (z_bif z_b0 z_b1)) hf
      refine z_if_lt (q := 52) (tgt := 56) dX13_counts_49 rfl rfl (fun hc => ?_) (fun hc => ?_)
      · have hk := (z_ite hk).1 hc
        refine z_iconst (q := 57) (v := 0) dX13_counts_56 rfl rfl ?_
        exact hk
      · have hk := (z_ite hk).2 hc
        refine z_iconst (q := 53) (v := 1) dX13_counts_52 rfl rfl ?_
        refine z_goto (q := 57) dX13_counts_53 rfl ?_
        exact hk
    · have hf := hf.2 hc
      refine z_aload_n (q := 39) (i := 0) (x := a0) dX13_counts_38 rfl rfl rfl ?_
      refine z_get 11 45 (q := 42) (v := .int (h_2.I a0 45)) rfl (z_lt rfl) (z_L11_T g_3) q1803 dX13_counts_39 rfl (congrArg Value.int (z_rIf (by decide))) ?_
      refine z_if_eq (q := 45) (tgt := 58) dX13_counts_42 rfl rfl (fun hc => ?_) (fun hc => ?_)
      · have hf := hf.1 hc
        refine z_iconst (q := 59) (v := 0) dX13_counts_58 rfl rfl ?_
        refine z_istore_n (q := 60) (i := 1) (ls2 := [some (.ref a0), some (.int 0)]) (x := 0) dX13_counts_59 rfl (z_lt rfl) rfl rfl ?_
        exact hf
      · have hf := hf.2 hc
        refine z_aload_n (q := 46) (i := 0) (x := a0) dX13_counts_45 rfl rfl rfl ?_
        refine z_get 11 44 (q := 49) (v := .int (-1)) rfl (z_lt rfl) (z_L11_T g_3) q1802 dX13_counts_46 rfl (congrArg Value.int z_rIs) ?_
        have hk : z_V l G m_X13_counts (z_Fm G m_X13_counts Q) 0 0 (h_2.sI a0 44 (-1)) 57 [some (.ref a0), none] [.int (if ((-1) : Int32) < 0 then 0 else 1)] := by
          exact z_zret dX13_counts_57 rfl (z_nb01 (z_bif z_b0 z_b1)) hf
        refine z_if_lt (q := 52) (tgt := 56) dX13_counts_49 rfl rfl (fun hc => ?_) (fun hc => ?_)
        · have hk := (z_ite hk).1 hc
          refine z_iconst (q := 57) (v := 0) dX13_counts_56 rfl rfl ?_
          exact hk
        · have hk := (z_ite hk).2 hc
          refine z_iconst (q := 53) (v := 1) dX13_counts_52 rfl rfl ?_
          refine z_goto (q := 57) dX13_counts_53 rfl ?_
          exact hk

theorem b_X13_counts_60 {l : Launch} {G : z_G} {a0 : Nat} {x1 : Int32} {h : z_H} {Q : z_Q}  (hf : z_L11 h a0 ∧ ((h.I a0 44) ≤ x1 → z_Ct l G m_X13_laysPack [.ref a0] (h.sI a0 45 1) (z_Qv (fun h_2 => Q (some (.int 1)) h_2))) ∧ (¬ (h.I a0 44) ≤ x1 → vp_in 2 420 ∧ z_Ct l G m_X13_dealsTrial [.ref a0, .ref (a0 + 26), .int (h.I a0 41), .int (h.I (a0 + 6) (Int32.toNatClampNeg 2))] h (z_Qv (fun h_4 => z_L11 h_4 a0 ∧ z_Ct l G m_X13_runs [.ref a0, .int 9660, .int (-1)] h_4 (z_Qv (fun h_6 => z_L11 h_6 a0 ∧ vp_in x1 20000 ∧ vp_in x1 20000 ∧ z_Ct l G m_X13_goesNext [.ref a0, .ref (a0 + 26), .int (h_6.I a0 41)] ((h_6.sI (a0 + 27) (Int32.toNatClampNeg x1) (h_6.I a0 36)).sI (a0 + 28) (Int32.toNatClampNeg x1) (h_6.I a0 37)) (z_Qi (fun x_10 h_11 => z_V l G m_X13_counts (z_Fm G m_X13_counts Q) 0 0 h_11 60 [some (.ref a0), some (.int (x1 + 1))] [])))))))) : z_V l G m_X13_counts (z_Fm G m_X13_counts Q) 0 0 h 60 [some (.ref a0), some (.int x1)] [] := by
  refine z_iload_n (q := 61) (i := 1) (x := x1) dX13_counts_60 rfl rfl rfl ?_
  refine z_aload_n (q := 62) (i := 0) (x := a0) dX13_counts_61 rfl rfl rfl ?_
  obtain ⟨g_1, hf⟩ := hf
  refine z_get 11 44 (q := 65) (v := .int (h.I a0 44)) rfl (z_lt rfl) (z_L11_T g_1) q1802 dX13_counts_62 rfl rfl ?_
  refine z_icmp_ge (q := 68) (tgt := 133) dX13_counts_65 rfl rfl (fun hc => ?_) (fun hc => ?_)
  · have hf := hf.1 hc
    refine z_aload_n (q := 134) (i := 0) (x := a0) dX13_counts_133 rfl rfl rfl ?_
    refine z_iconst (q := 135) (v := 1) dX13_counts_134 rfl rfl ?_
    refine z_putI 11 45 (q := 138) (x := 1) (v := .int 1) rfl (z_lt rfl) (z_L11_T g_1) q1803 rfl dX13_counts_135 rfl rfl rfl rfl (fun _ _ _ => rfl) ?_
    refine z_aload_n (q := 139) (i := 0) (x := a0) dX13_counts_138 rfl rfl rfl ?_
    refine z_cVv m_X13_laysPack [] (a0) (q := 142) (rc2 := 0) (rs2 := 0) (st := []) dX13_counts_139 rfl q2194 oV_X13_laysPack rfl rfl ⟨z_le rfl, z_le rfl⟩ (z_le rfl) (z_rcv_of 11 rfl (z_L11_T g_1) rfl) rfl  rfl hf (fun h_2 hf => ?_)
    refine z_iconst (q := 143) (v := 1) dX13_counts_142 rfl rfl ?_
    exact z_zret dX13_counts_143 rfl (z_nb01 z_b1) hf
  · have hf := hf.2 hc
    refine z_aload_n (q := 69) (i := 0) (x := a0) dX13_counts_68 rfl rfl rfl ?_
    refine z_aload_n (q := 70) (i := 0) (x := a0) dX13_counts_69 rfl rfl rfl ?_
    refine z_get 11 40 (q := 73) (v := .ref (a0 + 26)) rfl (z_lt rfl) (z_L11_T g_1) q1798 dX13_counts_70 rfl (z_fvR (fun _ _ _ => rfl) (z_L11_P40 g_1)) ?_
    refine z_aload_n (q := 74) (i := 0) (x := a0) dX13_counts_73 rfl rfl rfl ?_
    refine z_get 11 41 (q := 77) (v := .int (h.I a0 41)) rfl (z_lt rfl) (z_L11_T g_1) q1799 dX13_counts_74 rfl rfl ?_
    refine z_aload_n (q := 78) (i := 0) (x := a0) dX13_counts_77 rfl rfl rfl ?_
    refine z_get 11 10 (q := 81) (v := .ref (a0 + 6)) rfl (z_lt rfl) (z_L11_T g_1) q1768 dX13_counts_78 rfl (z_fvR (fun _ _ _ => rfl) (z_L11_P10 g_1)) ?_
    refine z_iconst (q := 82) (v := 2) dX13_counts_81 rfl rfl ?_
    obtain ⟨g_3, hf⟩ := hf
    refine z_iald (q := 83) (n := 420) (z_L11_A10 g_1) g_3 dX13_counts_82 rfl ?_
    refine z_cVv m_X13_dealsTrial [.ref (a0 + 26), .int (h.I a0 41), .int (h.I (a0 + 6) (Int32.toNatClampNeg 2))] (a0) (q := 86) (rc2 := 0) (rs2 := 0) (st := []) dX13_counts_83 rfl q2203 oV_X13_dealsTrial rfl rfl ⟨z_le rfl, z_le rfl⟩ (z_le rfl) (z_rcv_of 11 rfl (z_L11_T g_1) rfl) rfl  rfl hf (fun h_4 hf => ?_)
    refine z_aload_n (q := 87) (i := 0) (x := a0) dX13_counts_86 rfl rfl rfl ?_
    refine z_sipush (q := 90) (v := 9660) dX13_counts_87 (by decide) rfl ?_
    refine z_iconst (q := 91) (v := (-1)) dX13_counts_90 rfl rfl ?_
    obtain ⟨g_5, hf⟩ := hf
    refine z_cVv m_X13_runs [.int 9660, .int (-1)] (a0) (q := 94) (rc2 := 0) (rs2 := 0) (st := []) dX13_counts_91 rfl q2168 oV_X13_runs rfl rfl ⟨z_le rfl, z_le rfl⟩ (z_le rfl) (z_rcv_of 11 rfl (z_L11_T g_5) rfl) rfl  rfl hf (fun h_6 hf => ?_)
    refine z_aload_n (q := 95) (i := 0) (x := a0) dX13_counts_94 rfl rfl rfl ?_
    obtain ⟨g_7, hf⟩ := hf
    refine z_get 11 42 (q := 98) (v := .ref (a0 + 27)) rfl (z_lt rfl) (z_L11_T g_7) q1800 dX13_counts_95 rfl (z_fvR (fun _ _ _ => rfl) (z_L11_P42 g_7)) ?_
    refine z_iload_n (q := 99) (i := 1) (x := x1) dX13_counts_98 rfl rfl rfl ?_
    refine z_aload_n (q := 100) (i := 0) (x := a0) dX13_counts_99 rfl rfl rfl ?_
    refine z_get 11 36 (q := 103) (v := .int (h_6.I a0 36)) rfl (z_lt rfl) (z_L11_T g_7) q1794 dX13_counts_100 rfl rfl ?_
    obtain ⟨g_8, hf⟩ := hf
    refine z_iast (q := 104) (n := 20000) (z_L11_A42 g_7) g_8 dX13_counts_103 rfl ?_
    refine z_aload_n (q := 105) (i := 0) (x := a0) dX13_counts_104 rfl rfl rfl ?_
    refine z_get 11 43 (q := 108) (v := .ref (a0 + 28)) rfl (z_lt rfl) (z_L11_T g_7) q1801 dX13_counts_105 rfl (z_fvR (fun _ _ _ => rfl) (z_L11_P43 g_7)) ?_
    refine z_iload_n (q := 109) (i := 1) (x := x1) dX13_counts_108 rfl rfl rfl ?_
    refine z_aload_n (q := 110) (i := 0) (x := a0) dX13_counts_109 rfl rfl rfl ?_
    refine z_get 11 37 (q := 113) (v := .int (h_6.I a0 37)) rfl (z_lt rfl) (z_L11_T g_7) q1795 dX13_counts_110 rfl (congrArg Value.int (z_rIa (by omega))) ?_
    obtain ⟨g_9, hf⟩ := hf
    refine z_iast (q := 114) (n := 20000) (z_L11_A43 g_7) g_9 dX13_counts_113 rfl ?_
    refine z_aload_n (q := 115) (i := 0) (x := a0) dX13_counts_114 rfl rfl rfl ?_
    refine z_aload_n (q := 116) (i := 0) (x := a0) dX13_counts_115 rfl rfl rfl ?_
    refine z_get 11 40 (q := 119) (v := .ref (a0 + 26)) rfl (z_lt rfl) (z_L11_T g_7) q1798 dX13_counts_116 rfl (z_fvR (fun _ _ _ => rfl) (z_L11_P40 g_7)) ?_
    refine z_aload_n (q := 120) (i := 0) (x := a0) dX13_counts_119 rfl rfl rfl ?_
    refine z_get 11 41 (q := 123) (v := .int (h_6.I a0 41)) rfl (z_lt rfl) (z_L11_T g_7) q1799 dX13_counts_120 rfl (congrArg Value.int (Eq.trans (z_rIa (by omega)) (z_rIa (by omega)))) ?_
    refine z_cVi m_X13_goesNext [.ref (a0 + 26), .int (h_6.I a0 41)] (a0) (q := 126) (rc2 := 0) (rs2 := 0) (st := []) dX13_counts_123 rfl q2207 oV_X13_goesNext rfl rfl ⟨z_le rfl, z_le rfl⟩ (z_le rfl) (z_rcv_of 11 rfl (z_L11_T g_7) rfl) rfl  rfl hf (fun x_10 h_11 hf => ?_)
    refine z_pop (q := 127) dX13_counts_126 rfl rfl ?_
    refine z_iinc (q := 130) (i := 1) (x := x1) (v := (x1 + 1)) (ls2 := [some (.ref a0), some (.int (x1 + 1))]) dX13_counts_127 rfl rfl (z_lt rfl) rfl rfl ?_
    refine z_goto (q := 60) dX13_counts_130 rfl ?_
    exact hf

theorem u_X13_cutAll {l : Launch} {G : z_G} {a0 : Nat} {h : z_H} {Q : z_Q} (hst : l.stackTraces = false)  (hf : z_L11 h a0 ∧ z_V l G m_X13_cutAll (z_Fm G m_X13_cutAll Q) 0 0 ((h.sI a0 3 (h.I a0 2)).sI a0 2 0) 17 [some (.ref a0), some (.int 0), some (.int 0), none, none, none, none] []) : z_Ct l G m_X13_cutAll [.ref a0] h Q := by
  refine z_Ct.of (ls := [some (.ref a0), none, none, none, none, none, none]) hst rfl (by show plainName yX13_cutAll.cls = true; decide +kernel) (z_le rfl) rfl ?_
  show z_V l G m_X13_cutAll (z_Fm G m_X13_cutAll Q) 0 0 h 0 [some (.ref a0), none, none, none, none, none, none] []
  refine z_aload_n (q := 1) (i := 0) (x := a0) dX13_cutAll_0 rfl rfl rfl ?_
  refine z_aload_n (q := 2) (i := 0) (x := a0) dX13_cutAll_1 rfl rfl rfl ?_
  obtain ⟨g_1, hf⟩ := hf
  refine z_get 11 2 (q := 5) (v := .int (h.I a0 2)) rfl (z_lt rfl) (z_L11_T g_1) q1760 dX13_cutAll_2 rfl rfl ?_
  refine z_putI 11 3 (q := 8) (x := (h.I a0 2)) (v := .int (h.I a0 2)) rfl (z_lt rfl) (z_L11_T g_1) q1761 rfl dX13_cutAll_5 rfl rfl rfl rfl (fun _ _ _ => rfl) ?_
  refine z_aload_n (q := 9) (i := 0) (x := a0) dX13_cutAll_8 rfl rfl rfl ?_
  refine z_iconst (q := 10) (v := 0) dX13_cutAll_9 rfl rfl ?_
  refine z_putI 11 2 (q := 13) (x := 0) (v := .int 0) rfl (z_lt rfl) (z_L11_T g_1) q1760 rfl dX13_cutAll_10 rfl rfl rfl rfl (fun _ _ _ => rfl) ?_
  refine z_iconst (q := 14) (v := 0) dX13_cutAll_13 rfl rfl ?_
  refine z_istore_n (q := 15) (i := 1) (ls2 := [some (.ref a0), some (.int 0), none, none, none, none, none]) (x := 0) dX13_cutAll_14 rfl (z_lt rfl) rfl rfl ?_
  refine z_iconst (q := 16) (v := 0) dX13_cutAll_15 rfl rfl ?_
  refine z_istore_n (q := 17) (i := 2) (ls2 := [some (.ref a0), some (.int 0), some (.int 0), none, none, none, none]) (x := 0) dX13_cutAll_16 rfl (z_lt rfl) rfl rfl ?_
  exact hf

theorem b_X13_cutAll_17 {l : Launch} {G : z_G} {a0 : Nat} {x1 : Int32} {x2 : Int32} {h : z_H} {Q : z_Q}  (hf : z_L11 h a0 ∧ ((h.I a0 3) ≤ x2 → vp_in x1 1002 ∧ vp_in x1 1002 ∧ Q none ((((h.sI (a0 + 2) (Int32.toNatClampNeg x1) 0).sI (a0 + 3) (Int32.toNatClampNeg x1) (h.I a0 3)).sI a0 7 0).sI a0 8 0)) ∧ (¬ (h.I a0 3) ≤ x2 → vp_in x2 1000 ∧ ∀ v_5 : Int32, v_5 = (h.I (a0 + 1) (Int32.toNatClampNeg x2)) → (v_5 = 10 → z_V l G m_X13_cutAll (z_Fm G m_X13_cutAll Q) 0 0 h 17 [some (.ref a0), some (.int x1), some (.int (x2 + 1)), none, none, none, none] []) ∧ (¬ v_5 = 10 → (v_5 = 32 → z_V l G m_X13_cutAll (z_Fm G m_X13_cutAll Q) 0 0 h 17 [some (.ref a0), some (.int x1), some (.int (x2 + 1)), none, none, none, none] []) ∧ (¬ v_5 = 32 → vp_in x1 1002 ∧ z_Ct l G m_X13_isLetter [.int v_5] (h.sI (a0 + 3) (Int32.toNatClampNeg x1) x2) (z_Qi (fun x_8 h_9 => (x_8 = 0 → z_Ct l G m_X13_isDigit [.int v_5] h_9 (z_Qi (fun x_10 h_11 => (x_10 = 0 → ∀ v_12 : Int64, v_12 = (Int32.toInt64 v_5) → z_L11 h_11 a0 ∧ z_Ct l G m_X13_isSignOf [.int v_5] h_11 (z_Qi (fun x_15 h_16 => ∃ n_17, h_16.T (a0 + 2) = (1, n_17) ∧ vp_in x1 n_17 ∧ z_L11 h_16 a0 ∧ vp_in x1 1002 ∧ z_V l G m_X13_cutAll (z_Fm G m_X13_cutAll Q) 0 0 ((h_16.sI (a0 + 2) (Int32.toNatClampNeg x1) (if x_15 = 0 then 4 else 3)).sL (a0 + 4) (Int32.toNatClampNeg x1) v_12) 17 [some (.ref a0), some (.int (x1 + 1)), some (.int (x2 + 1)), none, none, none, none] []))) ∧ (¬ x_10 = 0 → z_V l G m_X13_cutAll (z_Fm G m_X13_cutAll Q) 0 0 h_11 159 [some (.ref a0), some (.int x1), some (.int x2), none, some (.int x2), some (.long 0), none] [])))) ∧ (¬ x_8 = 0 → z_V l G m_X13_cutAll (z_Fm G m_X13_cutAll Q) 0 0 h_9 70 [some (.ref a0), some (.int x1), some (.int x2), none, some (.int x2), some (.long 0), none] []))))))) : z_V l G m_X13_cutAll (z_Fm G m_X13_cutAll Q) 0 0 h 17 [some (.ref a0), some (.int x1), some (.int x2), none, none, none, none] [] := by
  refine z_iload_n (q := 18) (i := 2) (x := x2) dX13_cutAll_17 rfl rfl rfl ?_
  refine z_aload_n (q := 19) (i := 0) (x := a0) dX13_cutAll_18 rfl rfl rfl ?_
  obtain ⟨g_1, hf⟩ := hf
  refine z_get 11 3 (q := 22) (v := .int (h.I a0 3)) rfl (z_lt rfl) (z_L11_T g_1) q1761 dX13_cutAll_19 rfl rfl ?_
  refine z_icmp_ge (q := 25) (tgt := 279) dX13_cutAll_22 rfl rfl (fun hc => ?_) (fun hc => ?_)
  · have hf := hf.1 hc
    refine z_aload_n (q := 280) (i := 0) (x := a0) dX13_cutAll_279 rfl rfl rfl ?_
    refine z_get 11 4 (q := 283) (v := .ref (a0 + 2)) rfl (z_lt rfl) (z_L11_T g_1) q1762 dX13_cutAll_280 rfl (z_fvR (fun _ _ _ => rfl) (z_L11_P4 g_1)) ?_
    refine z_iload_n (q := 284) (i := 1) (x := x1) dX13_cutAll_283 rfl rfl rfl ?_
    refine z_iconst (q := 285) (v := 0) dX13_cutAll_284 rfl rfl ?_
    obtain ⟨g_2, hf⟩ := hf
    refine z_iast (q := 286) (n := 1002) (z_L11_A4 g_1) g_2 dX13_cutAll_285 rfl ?_
    refine z_aload_n (q := 287) (i := 0) (x := a0) dX13_cutAll_286 rfl rfl rfl ?_
    refine z_get 11 5 (q := 290) (v := .ref (a0 + 3)) rfl (z_lt rfl) (z_L11_T g_1) q1763 dX13_cutAll_287 rfl (z_fvR (fun _ _ _ => rfl) (z_L11_P5 g_1)) ?_
    refine z_iload_n (q := 291) (i := 1) (x := x1) dX13_cutAll_290 rfl rfl rfl ?_
    refine z_aload_n (q := 292) (i := 0) (x := a0) dX13_cutAll_291 rfl rfl rfl ?_
    refine z_get 11 3 (q := 295) (v := .int (h.I a0 3)) rfl (z_lt rfl) (z_L11_T g_1) q1761 dX13_cutAll_292 rfl (congrArg Value.int (z_rIa (by omega))) ?_
    obtain ⟨g_3, hf⟩ := hf
    refine z_iast (q := 296) (n := 1002) (z_L11_A5 g_1) g_3 dX13_cutAll_295 rfl ?_
    refine z_aload_n (q := 297) (i := 0) (x := a0) dX13_cutAll_296 rfl rfl rfl ?_
    refine z_iconst (q := 298) (v := 0) dX13_cutAll_297 rfl rfl ?_
    refine z_putI 11 7 (q := 301) (x := 0) (v := .int 0) rfl (z_lt rfl) (z_L11_T g_1) q1765 rfl dX13_cutAll_298 rfl rfl rfl rfl (fun _ _ _ => rfl) ?_
    refine z_aload_n (q := 302) (i := 0) (x := a0) dX13_cutAll_301 rfl rfl rfl ?_
    refine z_iconst (q := 303) (v := 0) dX13_cutAll_302 rfl rfl ?_
    refine z_putI 11 8 (q := 306) (x := 0) (v := .int 0) rfl (z_lt rfl) (z_L11_T g_1) q1766 rfl dX13_cutAll_303 rfl rfl rfl rfl (fun _ _ _ => rfl) ?_
    exact z_vret dX13_cutAll_306 rfl hf
  · have hf := hf.2 hc
    refine z_aload_n (q := 26) (i := 0) (x := a0) dX13_cutAll_25 rfl rfl rfl ?_
    refine z_get 11 1 (q := 29) (v := .ref (a0 + 1)) rfl (z_lt rfl) (z_L11_T g_1) q1759 dX13_cutAll_26 rfl (z_fvR (fun _ _ _ => rfl) (z_L11_P1 g_1)) ?_
    refine z_iload_n (q := 30) (i := 2) (x := x2) dX13_cutAll_29 rfl rfl rfl ?_
    obtain ⟨g_4, hf⟩ := hf
    refine z_iald (q := 31) (n := 1000) (z_L11_A1 g_1) g_4 dX13_cutAll_30 rfl ?_
    refine z_nmI (fun v_5 hv_6 => ?_)
    have hf := hf v_5 hv_6
    refine z_istore_n (q := 32) (i := 3) (ls2 := [some (.ref a0), some (.int x1), some (.int x2), some (.int v_5), none, none, none]) (x := v_5) dX13_cutAll_31 rfl (z_lt rfl) rfl rfl ?_
    refine z_iload_n (q := 33) (i := 3) (x := v_5) dX13_cutAll_32 rfl rfl rfl ?_
    refine z_bipush (q := 35) (v := 10) dX13_cutAll_33 (by decide) rfl ?_
    refine z_icmp_eq (q := 38) (tgt := 44) dX13_cutAll_35 rfl rfl (fun hc => ?_) (fun hc => ?_)
    · have hf := hf.1 hc
      refine z_iinc (q := 47) (i := 2) (x := x2) (v := (x2 + 1)) (ls2 := [some (.ref a0), some (.int x1), some (.int (x2 + 1)), some (.int v_5), none, none, none]) dX13_cutAll_44 rfl rfl (z_lt rfl) rfl rfl ?_
      refine z_goto (q := 17) dX13_cutAll_47 rfl ?_
      refine z_prune [true, true, true, false, false, false, false] (ls2 := [some (.ref a0), some (.int x1), some (.int (x2 + 1)), none, none, none, none]) rfl ?_
      exact hf
    · have hf := hf.2 hc
      refine z_iload_n (q := 39) (i := 3) (x := v_5) dX13_cutAll_38 rfl rfl rfl ?_
      refine z_bipush (q := 41) (v := 32) dX13_cutAll_39 (by decide) rfl ?_
      refine z_icmp_ne (q := 44) (tgt := 50) dX13_cutAll_41 rfl rfl (fun hc => ?_) (fun hc => ?_)
      · have hf := hf.2 hc
        refine z_iload_n (q := 51) (i := 2) (x := x2) dX13_cutAll_50 rfl rfl rfl ?_
        refine z_istore (q := 53) (i := 4) (ls2 := [some (.ref a0), some (.int x1), some (.int x2), some (.int v_5), some (.int x2), none, none]) (x := x2) dX13_cutAll_51 (z_lt rfl) rfl rfl ?_
        refine z_lconst (q := 54) (v := 0) dX13_cutAll_53 (by decide) rfl ?_
        refine z_lstore (q := 56) (i := 5) (ls2 := [some (.ref a0), some (.int x1), some (.int x2), some (.int v_5), some (.int x2), some (.long 0), none]) (x := 0) dX13_cutAll_54 (z_lt rfl) rfl rfl ?_
        refine z_aload_n (q := 57) (i := 0) (x := a0) dX13_cutAll_56 rfl rfl rfl ?_
        refine z_get 11 5 (q := 60) (v := .ref (a0 + 3)) rfl (z_lt rfl) (z_L11_T g_1) q1763 dX13_cutAll_57 rfl (z_fvR (fun _ _ _ => rfl) (z_L11_P5 g_1)) ?_
        refine z_iload_n (q := 61) (i := 1) (x := x1) dX13_cutAll_60 rfl rfl rfl ?_
        refine z_iload_n (q := 62) (i := 2) (x := x2) dX13_cutAll_61 rfl rfl rfl ?_
        obtain ⟨g_7, hf⟩ := hf
        refine z_iast (q := 63) (n := 1002) (z_L11_A5 g_1) g_7 dX13_cutAll_62 rfl ?_
        refine z_iload_n (q := 64) (i := 3) (x := v_5) dX13_cutAll_63 rfl rfl rfl ?_
        refine z_cSi m_X13_isLetter [.int v_5] (q := 67) (rc2 := 0) (rs2 := 0) (st := []) dX13_cutAll_64 rfl q1935 oS_X13_isLetter rfl rfl ⟨z_le rfl, z_le rfl⟩ (z_le rfl) rfl  rfl hf (fun x_8 h_9 hf => ?_)
        refine z_if_eq (q := 70) (tgt := 152) dX13_cutAll_67 rfl rfl (fun hc => ?_) (fun hc => ?_)
        · have hf := hf.1 hc
          refine z_iload_n (q := 153) (i := 3) (x := v_5) dX13_cutAll_152 rfl rfl rfl ?_
          refine z_cSi m_X13_isDigit [.int v_5] (q := 156) (rc2 := 0) (rs2 := 0) (st := []) dX13_cutAll_153 rfl q1942 oS_X13_isDigit rfl rfl ⟨z_le rfl, z_le rfl⟩ (z_le rfl) rfl  rfl hf (fun x_10 h_11 hf => ?_)
          refine z_if_eq (q := 159) (tgt := 240) dX13_cutAll_156 rfl rfl (fun hc => ?_) (fun hc => ?_)
          · have hf := hf.1 hc
            refine z_iload_n (q := 241) (i := 3) (x := v_5) dX13_cutAll_240 rfl rfl rfl ?_
            refine z_i2l (q := 242) dX13_cutAll_241 rfl ?_
            refine z_nmL (fun v_12 hv_13 => ?_)
            have hf := hf v_12 hv_13
            refine z_lstore (q := 244) (i := 5) (ls2 := [some (.ref a0), some (.int x1), some (.int x2), some (.int v_5), some (.int x2), some (.long v_12), none]) (x := v_12) dX13_cutAll_242 (z_lt rfl) rfl rfl ?_
            refine z_aload_n (q := 245) (i := 0) (x := a0) dX13_cutAll_244 rfl rfl rfl ?_
            obtain ⟨g_14, hf⟩ := hf
            refine z_get 11 4 (q := 248) (v := .ref (a0 + 2)) rfl (z_lt rfl) (z_L11_T g_14) q1762 dX13_cutAll_245 rfl (z_fvR (fun _ _ _ => rfl) (z_L11_P4 g_14)) ?_
            refine z_iload_n (q := 249) (i := 1) (x := x1) dX13_cutAll_248 rfl rfl rfl ?_
            refine z_iload_n (q := 250) (i := 3) (x := v_5) dX13_cutAll_249 rfl rfl rfl ?_
            refine z_cSi m_X13_isSignOf [.int v_5] (q := 253) (rc2 := 0) (rs2 := 0) (st := [.int x1, .ref (a0 + 2)]) dX13_cutAll_250 rfl q1947 oS_X13_isSignOf rfl rfl ⟨z_le rfl, z_le rfl⟩ (z_le rfl) rfl  rfl hf (fun x_15 h_16 hf => ?_)
            have hk : z_V l G m_X13_cutAll (z_Fm G m_X13_cutAll Q) 0 0 h_16 261 [some (.ref a0), some (.int x1), some (.int x2), some (.int v_5), some (.int x2), some (.long v_12), none] [.int (if x_15 = 0 then 4 else 3), .int x1, .ref (a0 + 2)] := by
              obtain ⟨n_17, g_18, hf⟩ := hf
              obtain ⟨g_19, hf⟩ := hf
              refine z_iast (q := 262) (n := n_17) g_18 g_19 dX13_cutAll_261 rfl ?_
              refine z_iinc (q := 265) (i := 2) (x := x2) (v := (x2 + 1)) (ls2 := [some (.ref a0), some (.int x1), some (.int (x2 + 1)), some (.int v_5), some (.int x2), some (.long v_12), none]) dX13_cutAll_262 rfl rfl (z_lt rfl) rfl rfl ?_
              refine z_aload_n (q := 266) (i := 0) (x := a0) dX13_cutAll_265 rfl rfl rfl ?_
              obtain ⟨g_20, hf⟩ := hf
              refine z_get 11 6 (q := 269) (v := .ref (a0 + 4)) rfl (z_lt rfl) (z_L11_T g_20) q1764 dX13_cutAll_266 rfl (z_fvR (fun _ _ _ => rfl) (z_L11_P6 g_20)) ?_
              refine z_iload_n (q := 270) (i := 1) (x := x1) dX13_cutAll_269 rfl rfl rfl ?_
              refine z_lload (q := 272) (i := 5) (x := v_12) dX13_cutAll_270 rfl rfl ?_
              obtain ⟨g_21, hf⟩ := hf
              refine z_last (q := 273) (n := 1002) (z_L11_A6 g_20) g_21 dX13_cutAll_272 rfl ?_
              refine z_iinc (q := 276) (i := 1) (x := x1) (v := (x1 + 1)) (ls2 := [some (.ref a0), some (.int (x1 + 1)), some (.int (x2 + 1)), some (.int v_5), some (.int x2), some (.long v_12), none]) dX13_cutAll_273 rfl rfl (z_lt rfl) rfl rfl ?_
              refine z_goto (q := 17) dX13_cutAll_276 rfl ?_
              refine z_prune [true, true, true, false, false, false, false] (ls2 := [some (.ref a0), some (.int (x1 + 1)), some (.int (x2 + 1)), none, none, none, none]) rfl ?_
              exact hf
            refine z_if_eq (q := 256) (tgt := 260) dX13_cutAll_253 rfl rfl (fun hc => ?_) (fun hc => ?_)
            · have hk := (z_ite hk).1 hc
              refine z_iconst (q := 261) (v := 4) dX13_cutAll_260 rfl rfl ?_
              exact hk
            · have hk := (z_ite hk).2 hc
              refine z_iconst (q := 257) (v := 3) dX13_cutAll_256 rfl rfl ?_
              refine z_goto (q := 261) dX13_cutAll_257 rfl ?_
              exact hk
          · have hf := hf.2 hc
            refine z_prune [true, true, true, false, true, true, false] (ls2 := [some (.ref a0), some (.int x1), some (.int x2), none, some (.int x2), some (.long 0), none]) rfl ?_
            exact hf
        · have hf := hf.2 hc
          refine z_prune [true, true, true, false, true, true, false] (ls2 := [some (.ref a0), some (.int x1), some (.int x2), none, some (.int x2), some (.long 0), none]) rfl ?_
          exact hf
      · have hf := hf.1 hc
        refine z_iinc (q := 47) (i := 2) (x := x2) (v := (x2 + 1)) (ls2 := [some (.ref a0), some (.int x1), some (.int (x2 + 1)), some (.int v_5), none, none, none]) dX13_cutAll_44 rfl rfl (z_lt rfl) rfl rfl ?_
        refine z_goto (q := 17) dX13_cutAll_47 rfl ?_
        refine z_prune [true, true, true, false, false, false, false] (ls2 := [some (.ref a0), some (.int x1), some (.int (x2 + 1)), none, none, none, none]) rfl ?_
        exact hf

theorem b_X13_cutAll_159 {l : Launch} {G : z_G} {a0 : Nat} {x1 : Int32} {x2 : Int32} {x4 : Int32} {y5 : Int64} {h : z_H} {Q : z_Q}  (hf : z_L11 h a0 ∧ ((h.I a0 3) ≤ x2 → vp_in x1 1002 ∧ vp_in x1 1002 ∧ z_V l G m_X13_cutAll (z_Fm G m_X13_cutAll Q) 0 0 ((h.sI (a0 + 2) (Int32.toNatClampNeg x1) (if (x2 - x4) ≤ 4 then 2 else 4)).sL (a0 + 4) (Int32.toNatClampNeg x1) y5) 17 [some (.ref a0), some (.int (x1 + 1)), some (.int x2), none, none, none, none] []) ∧ (¬ (h.I a0 3) ≤ x2 → vp_in x2 1000 ∧ z_Ct l G m_X13_isDigit [.int (h.I (a0 + 1) (Int32.toNatClampNeg x2))] h (z_Qi (fun x_5 h_6 => (x_5 = 0 → z_L11 h_6 a0 ∧ vp_in x1 1002 ∧ vp_in x1 1002 ∧ z_V l G m_X13_cutAll (z_Fm G m_X13_cutAll Q) 0 0 ((h_6.sI (a0 + 2) (Int32.toNatClampNeg x1) (if (x2 - x4) ≤ 4 then 2 else 4)).sL (a0 + 4) (Int32.toNatClampNeg x1) y5) 17 [some (.ref a0), some (.int (x1 + 1)), some (.int x2), none, none, none, none] []) ∧ (¬ x_5 = 0 → (4 ≤ (x2 - x4) → z_V l G m_X13_cutAll (z_Fm G m_X13_cutAll Q) 0 0 h_6 159 [some (.ref a0), some (.int x1), some (.int (x2 + 1)), none, some (.int x4), some (.long y5), none] []) ∧ (¬ 4 ≤ (x2 - x4) → z_L11 h_6 a0 ∧ vp_in x2 1000 ∧ ∀ v_12 : Int64, v_12 = (((10 * y5) + (Int32.toInt64 (h_6.I (a0 + 1) (Int32.toNatClampNeg x2)))) - 48) → z_V l G m_X13_cutAll (z_Fm G m_X13_cutAll Q) 0 0 h_6 159 [some (.ref a0), some (.int x1), some (.int (x2 + 1)), none, some (.int x4), some (.long v_12), none] [])))))) : z_V l G m_X13_cutAll (z_Fm G m_X13_cutAll Q) 0 0 h 159 [some (.ref a0), some (.int x1), some (.int x2), none, some (.int x4), some (.long y5), none] [] := by
  refine z_iload_n (q := 160) (i := 2) (x := x2) dX13_cutAll_159 rfl rfl rfl ?_
  refine z_aload_n (q := 161) (i := 0) (x := a0) dX13_cutAll_160 rfl rfl rfl ?_
  obtain ⟨g_1, hf⟩ := hf
  refine z_get 11 3 (q := 164) (v := .int (h.I a0 3)) rfl (z_lt rfl) (z_L11_T g_1) q1761 dX13_cutAll_161 rfl rfl ?_
  refine z_icmp_ge (q := 167) (tgt := 218) dX13_cutAll_164 rfl rfl (fun hc => ?_) (fun hc => ?_)
  · have hf := hf.1 hc
    refine z_aload_n (q := 219) (i := 0) (x := a0) dX13_cutAll_218 rfl rfl rfl ?_
    refine z_get 11 4 (q := 222) (v := .ref (a0 + 2)) rfl (z_lt rfl) (z_L11_T g_1) q1762 dX13_cutAll_219 rfl (z_fvR (fun _ _ _ => rfl) (z_L11_P4 g_1)) ?_
    refine z_iload_n (q := 223) (i := 1) (x := x1) dX13_cutAll_222 rfl rfl rfl ?_
    refine z_iload_n (q := 224) (i := 2) (x := x2) dX13_cutAll_223 rfl rfl rfl ?_
    refine z_iload (q := 226) (i := 4) (x := x4) dX13_cutAll_224 rfl rfl ?_
    refine z_isub (q := 227) dX13_cutAll_226 rfl ?_
    refine z_iconst (q := 228) (v := 4) dX13_cutAll_227 rfl rfl ?_
    have hk : z_V l G m_X13_cutAll (z_Fm G m_X13_cutAll Q) 0 0 h 236 [some (.ref a0), some (.int x1), some (.int x2), none, some (.int x4), some (.long y5), none] [.int (if (x2 - x4) ≤ 4 then 2 else 4), .int x1, .ref (a0 + 2)] := by
      obtain ⟨g_2, hf⟩ := hf
      refine z_iast (q := 237) (n := 1002) (z_L11_A4 g_1) g_2 dX13_cutAll_236 rfl ?_
      refine z_goto (q := 265) dX13_cutAll_237 rfl ?_
      refine z_aload_n (q := 266) (i := 0) (x := a0) dX13_cutAll_265 rfl rfl rfl ?_
      refine z_get 11 6 (q := 269) (v := .ref (a0 + 4)) rfl (z_lt rfl) (z_L11_T g_1) q1764 dX13_cutAll_266 rfl (z_fvR (fun _ _ _ => rfl) (z_L11_P6 g_1)) ?_
      refine z_iload_n (q := 270) (i := 1) (x := x1) dX13_cutAll_269 rfl rfl rfl ?_
      refine z_lload (q := 272) (i := 5) (x := y5) dX13_cutAll_270 rfl rfl ?_
      obtain ⟨g_3, hf⟩ := hf
      refine z_last (q := 273) (n := 1002) (z_L11_A6 g_1) g_3 dX13_cutAll_272 rfl ?_
      refine z_iinc (q := 276) (i := 1) (x := x1) (v := (x1 + 1)) (ls2 := [some (.ref a0), some (.int (x1 + 1)), some (.int x2), none, some (.int x4), some (.long y5), none]) dX13_cutAll_273 rfl rfl (z_lt rfl) rfl rfl ?_
      refine z_goto (q := 17) dX13_cutAll_276 rfl ?_
      refine z_prune [true, true, true, false, false, false, false] (ls2 := [some (.ref a0), some (.int (x1 + 1)), some (.int x2), none, none, none, none]) rfl ?_
      exact hf
    refine z_icmp_le (q := 231) (tgt := 235) dX13_cutAll_228 rfl rfl (fun hc => ?_) (fun hc => ?_)
    · have hk := (z_ite hk).1 hc
      refine z_iconst (q := 236) (v := 2) dX13_cutAll_235 rfl rfl ?_
      exact hk
    · have hk := (z_ite hk).2 hc
      refine z_iconst (q := 232) (v := 4) dX13_cutAll_231 rfl rfl ?_
      refine z_goto (q := 236) dX13_cutAll_232 rfl ?_
      exact hk
  · have hf := hf.2 hc
    refine z_aload_n (q := 168) (i := 0) (x := a0) dX13_cutAll_167 rfl rfl rfl ?_
    refine z_get 11 1 (q := 171) (v := .ref (a0 + 1)) rfl (z_lt rfl) (z_L11_T g_1) q1759 dX13_cutAll_168 rfl (z_fvR (fun _ _ _ => rfl) (z_L11_P1 g_1)) ?_
    refine z_iload_n (q := 172) (i := 2) (x := x2) dX13_cutAll_171 rfl rfl rfl ?_
    obtain ⟨g_4, hf⟩ := hf
    refine z_iald (q := 173) (n := 1000) (z_L11_A1 g_1) g_4 dX13_cutAll_172 rfl ?_
    refine z_cSi m_X13_isDigit [.int (h.I (a0 + 1) (Int32.toNatClampNeg x2))] (q := 176) (rc2 := 0) (rs2 := 0) (st := []) dX13_cutAll_173 rfl q1942 oS_X13_isDigit rfl rfl ⟨z_le rfl, z_le rfl⟩ (z_le rfl) rfl  rfl hf (fun x_5 h_6 hf => ?_)
    refine z_if_eq (q := 179) (tgt := 218) dX13_cutAll_176 rfl rfl (fun hc => ?_) (fun hc => ?_)
    · have hf := hf.1 hc
      refine z_aload_n (q := 219) (i := 0) (x := a0) dX13_cutAll_218 rfl rfl rfl ?_
      obtain ⟨g_7, hf⟩ := hf
      refine z_get 11 4 (q := 222) (v := .ref (a0 + 2)) rfl (z_lt rfl) (z_L11_T g_7) q1762 dX13_cutAll_219 rfl (z_fvR (fun _ _ _ => rfl) (z_L11_P4 g_7)) ?_
      refine z_iload_n (q := 223) (i := 1) (x := x1) dX13_cutAll_222 rfl rfl rfl ?_
      refine z_iload_n (q := 224) (i := 2) (x := x2) dX13_cutAll_223 rfl rfl rfl ?_
      refine z_iload (q := 226) (i := 4) (x := x4) dX13_cutAll_224 rfl rfl ?_
      refine z_isub (q := 227) dX13_cutAll_226 rfl ?_
      refine z_iconst (q := 228) (v := 4) dX13_cutAll_227 rfl rfl ?_
      have hk : z_V l G m_X13_cutAll (z_Fm G m_X13_cutAll Q) 0 0 h_6 236 [some (.ref a0), some (.int x1), some (.int x2), none, some (.int x4), some (.long y5), none] [.int (if (x2 - x4) ≤ 4 then 2 else 4), .int x1, .ref (a0 + 2)] := by
        obtain ⟨g_8, hf⟩ := hf
        refine z_iast (q := 237) (n := 1002) (z_L11_A4 g_7) g_8 dX13_cutAll_236 rfl ?_
        refine z_goto (q := 265) dX13_cutAll_237 rfl ?_
        refine z_aload_n (q := 266) (i := 0) (x := a0) dX13_cutAll_265 rfl rfl rfl ?_
        refine z_get 11 6 (q := 269) (v := .ref (a0 + 4)) rfl (z_lt rfl) (z_L11_T g_7) q1764 dX13_cutAll_266 rfl (z_fvR (fun _ _ _ => rfl) (z_L11_P6 g_7)) ?_
        refine z_iload_n (q := 270) (i := 1) (x := x1) dX13_cutAll_269 rfl rfl rfl ?_
        refine z_lload (q := 272) (i := 5) (x := y5) dX13_cutAll_270 rfl rfl ?_
        obtain ⟨g_9, hf⟩ := hf
        refine z_last (q := 273) (n := 1002) (z_L11_A6 g_7) g_9 dX13_cutAll_272 rfl ?_
        refine z_iinc (q := 276) (i := 1) (x := x1) (v := (x1 + 1)) (ls2 := [some (.ref a0), some (.int (x1 + 1)), some (.int x2), none, some (.int x4), some (.long y5), none]) dX13_cutAll_273 rfl rfl (z_lt rfl) rfl rfl ?_
        refine z_goto (q := 17) dX13_cutAll_276 rfl ?_
        refine z_prune [true, true, true, false, false, false, false] (ls2 := [some (.ref a0), some (.int (x1 + 1)), some (.int x2), none, none, none, none]) rfl ?_
        exact hf
      refine z_icmp_le (q := 231) (tgt := 235) dX13_cutAll_228 rfl rfl (fun hc => ?_) (fun hc => ?_)
      · have hk := (z_ite hk).1 hc
        refine z_iconst (q := 236) (v := 2) dX13_cutAll_235 rfl rfl ?_
        exact hk
      · have hk := (z_ite hk).2 hc
        refine z_iconst (q := 232) (v := 4) dX13_cutAll_231 rfl rfl ?_
        refine z_goto (q := 236) dX13_cutAll_232 rfl ?_
        exact hk
    · have hf := hf.2 hc
      refine z_iload_n (q := 180) (i := 2) (x := x2) dX13_cutAll_179 rfl rfl rfl ?_
      refine z_iload (q := 182) (i := 4) (x := x4) dX13_cutAll_180 rfl rfl ?_
      refine z_isub (q := 183) dX13_cutAll_182 rfl ?_
      refine z_iconst (q := 184) (v := 4) dX13_cutAll_183 rfl rfl ?_
      refine z_icmp_ge (q := 187) (tgt := 208) dX13_cutAll_184 rfl rfl (fun hc => ?_) (fun hc => ?_)
      · have hf := hf.1 hc
        refine z_lload (q := 210) (i := 5) (x := y5) dX13_cutAll_208 rfl rfl ?_
        refine z_lstore (q := 212) (i := 5) (ls2 := [some (.ref a0), some (.int x1), some (.int x2), none, some (.int x4), some (.long y5), none]) (x := y5) dX13_cutAll_210 (z_lt rfl) rfl rfl ?_
        refine z_iinc (q := 215) (i := 2) (x := x2) (v := (x2 + 1)) (ls2 := [some (.ref a0), some (.int x1), some (.int (x2 + 1)), none, some (.int x4), some (.long y5), none]) dX13_cutAll_212 rfl rfl (z_lt rfl) rfl rfl ?_
        refine z_goto (q := 159) dX13_cutAll_215 rfl ?_
        exact hf
      · have hf := hf.2 hc
        refine z_ldc2 (q := 190) (v := 10) dX13_cutAll_187 q1945 rfl ?_
        refine z_lload (q := 192) (i := 5) (x := y5) dX13_cutAll_190 rfl rfl ?_
        refine z_lmul (q := 193) dX13_cutAll_192 rfl ?_
        refine z_aload_n (q := 194) (i := 0) (x := a0) dX13_cutAll_193 rfl rfl rfl ?_
        obtain ⟨g_10, hf⟩ := hf
        refine z_get 11 1 (q := 197) (v := .ref (a0 + 1)) rfl (z_lt rfl) (z_L11_T g_10) q1759 dX13_cutAll_194 rfl (z_fvR (fun _ _ _ => rfl) (z_L11_P1 g_10)) ?_
        refine z_iload_n (q := 198) (i := 2) (x := x2) dX13_cutAll_197 rfl rfl rfl ?_
        obtain ⟨g_11, hf⟩ := hf
        refine z_iald (q := 199) (n := 1000) (z_L11_A1 g_10) g_11 dX13_cutAll_198 rfl ?_
        refine z_i2l (q := 200) dX13_cutAll_199 rfl ?_
        refine z_ladd (q := 201) dX13_cutAll_200 rfl ?_
        refine z_ldc2 (q := 204) (v := 48) dX13_cutAll_201 q1946 rfl ?_
        refine z_lsub (q := 205) dX13_cutAll_204 rfl ?_
        refine z_goto (q := 210) dX13_cutAll_205 rfl ?_
        refine z_nmL (fun v_12 hv_13 => ?_)
        have hf := hf v_12 hv_13
        refine z_lstore (q := 212) (i := 5) (ls2 := [some (.ref a0), some (.int x1), some (.int x2), none, some (.int x4), some (.long v_12), none]) (x := v_12) dX13_cutAll_210 (z_lt rfl) rfl rfl ?_
        refine z_iinc (q := 215) (i := 2) (x := x2) (v := (x2 + 1)) (ls2 := [some (.ref a0), some (.int x1), some (.int (x2 + 1)), none, some (.int x4), some (.long v_12), none]) dX13_cutAll_212 rfl rfl (z_lt rfl) rfl rfl ?_
        refine z_goto (q := 159) dX13_cutAll_215 rfl ?_
        exact hf

theorem b_X13_cutAll_70 {l : Launch} {G : z_G} {a0 : Nat} {x1 : Int32} {x2 : Int32} {x4 : Int32} {y5 : Int64} {h : z_H} {Q : z_Q}  (hf : z_L11 h a0 ∧ ((h.I a0 3) ≤ x2 → vp_in x1 1002 ∧ vp_in x1 1002 ∧ z_V l G m_X13_cutAll (z_Fm G m_X13_cutAll Q) 0 0 ((h.sI (a0 + 2) (Int32.toNatClampNeg x1) (if (x2 - x4) ≤ 8 then 1 else 4)).sL (a0 + 4) (Int32.toNatClampNeg x1) y5) 17 [some (.ref a0), some (.int (x1 + 1)), some (.int x2), none, none, none, none] []) ∧ (¬ (h.I a0 3) ≤ x2 → vp_in x2 1000 ∧ z_Ct l G m_X13_isLetter [.int (h.I (a0 + 1) (Int32.toNatClampNeg x2))] h (z_Qi (fun x_5 h_6 => (x_5 = 0 → z_L11 h_6 a0 ∧ vp_in x1 1002 ∧ vp_in x1 1002 ∧ z_V l G m_X13_cutAll (z_Fm G m_X13_cutAll Q) 0 0 ((h_6.sI (a0 + 2) (Int32.toNatClampNeg x1) (if (x2 - x4) ≤ 8 then 1 else 4)).sL (a0 + 4) (Int32.toNatClampNeg x1) y5) 17 [some (.ref a0), some (.int (x1 + 1)), some (.int x2), none, none, none, none] []) ∧ (¬ x_5 = 0 → (8 ≤ (x2 - x4) → z_V l G m_X13_cutAll (z_Fm G m_X13_cutAll Q) 0 0 h_6 70 [some (.ref a0), some (.int x1), some (.int (x2 + 1)), none, some (.int x4), some (.long y5), none] []) ∧ (¬ 8 ≤ (x2 - x4) → z_L11 h_6 a0 ∧ vp_in x2 1000 ∧ z_Ct l G m_X13_rank [.int (h_6.I (a0 + 1) (Int32.toNatClampNeg x2))] h_6 (z_Qi (fun x_12 h_13 => ∀ v_14 : Int64, v_14 = ((37 * y5) + (Int32.toInt64 x_12)) → z_V l G m_X13_cutAll (z_Fm G m_X13_cutAll Q) 0 0 h_13 70 [some (.ref a0), some (.int x1), some (.int (x2 + 1)), none, some (.int x4), some (.long v_14), none] [])))))))) : z_V l G m_X13_cutAll (z_Fm G m_X13_cutAll Q) 0 0 h 70 [some (.ref a0), some (.int x1), some (.int x2), none, some (.int x4), some (.long y5), none] [] := by
  refine z_iload_n (q := 71) (i := 2) (x := x2) dX13_cutAll_70 rfl rfl rfl ?_
  refine z_aload_n (q := 72) (i := 0) (x := a0) dX13_cutAll_71 rfl rfl rfl ?_
  obtain ⟨g_1, hf⟩ := hf
  refine z_get 11 3 (q := 75) (v := .int (h.I a0 3)) rfl (z_lt rfl) (z_L11_T g_1) q1761 dX13_cutAll_72 rfl rfl ?_
  refine z_icmp_ge (q := 78) (tgt := 129) dX13_cutAll_75 rfl rfl (fun hc => ?_) (fun hc => ?_)
  · have hf := hf.1 hc
    refine z_aload_n (q := 130) (i := 0) (x := a0) dX13_cutAll_129 rfl rfl rfl ?_
    refine z_get 11 4 (q := 133) (v := .ref (a0 + 2)) rfl (z_lt rfl) (z_L11_T g_1) q1762 dX13_cutAll_130 rfl (z_fvR (fun _ _ _ => rfl) (z_L11_P4 g_1)) ?_
    refine z_iload_n (q := 134) (i := 1) (x := x1) dX13_cutAll_133 rfl rfl rfl ?_
    refine z_iload_n (q := 135) (i := 2) (x := x2) dX13_cutAll_134 rfl rfl rfl ?_
    refine z_iload (q := 137) (i := 4) (x := x4) dX13_cutAll_135 rfl rfl ?_
    refine z_isub (q := 138) dX13_cutAll_137 rfl ?_
    refine z_bipush (q := 140) (v := 8) dX13_cutAll_138 (by decide) rfl ?_
    have hk : z_V l G m_X13_cutAll (z_Fm G m_X13_cutAll Q) 0 0 h 148 [some (.ref a0), some (.int x1), some (.int x2), none, some (.int x4), some (.long y5), none] [.int (if (x2 - x4) ≤ 8 then 1 else 4), .int x1, .ref (a0 + 2)] := by
      obtain ⟨g_2, hf⟩ := hf
      refine z_iast (q := 149) (n := 1002) (z_L11_A4 g_1) g_2 dX13_cutAll_148 rfl ?_
      refine z_goto (q := 265) dX13_cutAll_149 rfl ?_
      refine z_aload_n (q := 266) (i := 0) (x := a0) dX13_cutAll_265 rfl rfl rfl ?_
      refine z_get 11 6 (q := 269) (v := .ref (a0 + 4)) rfl (z_lt rfl) (z_L11_T g_1) q1764 dX13_cutAll_266 rfl (z_fvR (fun _ _ _ => rfl) (z_L11_P6 g_1)) ?_
      refine z_iload_n (q := 270) (i := 1) (x := x1) dX13_cutAll_269 rfl rfl rfl ?_
      refine z_lload (q := 272) (i := 5) (x := y5) dX13_cutAll_270 rfl rfl ?_
      obtain ⟨g_3, hf⟩ := hf
      refine z_last (q := 273) (n := 1002) (z_L11_A6 g_1) g_3 dX13_cutAll_272 rfl ?_
      refine z_iinc (q := 276) (i := 1) (x := x1) (v := (x1 + 1)) (ls2 := [some (.ref a0), some (.int (x1 + 1)), some (.int x2), none, some (.int x4), some (.long y5), none]) dX13_cutAll_273 rfl rfl (z_lt rfl) rfl rfl ?_
      refine z_goto (q := 17) dX13_cutAll_276 rfl ?_
      refine z_prune [true, true, true, false, false, false, false] (ls2 := [some (.ref a0), some (.int (x1 + 1)), some (.int x2), none, none, none, none]) rfl ?_
      exact hf
    refine z_icmp_le (q := 143) (tgt := 147) dX13_cutAll_140 rfl rfl (fun hc => ?_) (fun hc => ?_)
    · have hk := (z_ite hk).1 hc
      refine z_iconst (q := 148) (v := 1) dX13_cutAll_147 rfl rfl ?_
      exact hk
    · have hk := (z_ite hk).2 hc
      refine z_iconst (q := 144) (v := 4) dX13_cutAll_143 rfl rfl ?_
      refine z_goto (q := 148) dX13_cutAll_144 rfl ?_
      exact hk
  · have hf := hf.2 hc
    refine z_aload_n (q := 79) (i := 0) (x := a0) dX13_cutAll_78 rfl rfl rfl ?_
    refine z_get 11 1 (q := 82) (v := .ref (a0 + 1)) rfl (z_lt rfl) (z_L11_T g_1) q1759 dX13_cutAll_79 rfl (z_fvR (fun _ _ _ => rfl) (z_L11_P1 g_1)) ?_
    refine z_iload_n (q := 83) (i := 2) (x := x2) dX13_cutAll_82 rfl rfl rfl ?_
    obtain ⟨g_4, hf⟩ := hf
    refine z_iald (q := 84) (n := 1000) (z_L11_A1 g_1) g_4 dX13_cutAll_83 rfl ?_
    refine z_cSi m_X13_isLetter [.int (h.I (a0 + 1) (Int32.toNatClampNeg x2))] (q := 87) (rc2 := 0) (rs2 := 0) (st := []) dX13_cutAll_84 rfl q1935 oS_X13_isLetter rfl rfl ⟨z_le rfl, z_le rfl⟩ (z_le rfl) rfl  rfl hf (fun x_5 h_6 hf => ?_)
    refine z_if_eq (q := 90) (tgt := 129) dX13_cutAll_87 rfl rfl (fun hc => ?_) (fun hc => ?_)
    · have hf := hf.1 hc
      refine z_aload_n (q := 130) (i := 0) (x := a0) dX13_cutAll_129 rfl rfl rfl ?_
      obtain ⟨g_7, hf⟩ := hf
      refine z_get 11 4 (q := 133) (v := .ref (a0 + 2)) rfl (z_lt rfl) (z_L11_T g_7) q1762 dX13_cutAll_130 rfl (z_fvR (fun _ _ _ => rfl) (z_L11_P4 g_7)) ?_
      refine z_iload_n (q := 134) (i := 1) (x := x1) dX13_cutAll_133 rfl rfl rfl ?_
      refine z_iload_n (q := 135) (i := 2) (x := x2) dX13_cutAll_134 rfl rfl rfl ?_
      refine z_iload (q := 137) (i := 4) (x := x4) dX13_cutAll_135 rfl rfl ?_
      refine z_isub (q := 138) dX13_cutAll_137 rfl ?_
      refine z_bipush (q := 140) (v := 8) dX13_cutAll_138 (by decide) rfl ?_
      have hk : z_V l G m_X13_cutAll (z_Fm G m_X13_cutAll Q) 0 0 h_6 148 [some (.ref a0), some (.int x1), some (.int x2), none, some (.int x4), some (.long y5), none] [.int (if (x2 - x4) ≤ 8 then 1 else 4), .int x1, .ref (a0 + 2)] := by
        obtain ⟨g_8, hf⟩ := hf
        refine z_iast (q := 149) (n := 1002) (z_L11_A4 g_7) g_8 dX13_cutAll_148 rfl ?_
        refine z_goto (q := 265) dX13_cutAll_149 rfl ?_
        refine z_aload_n (q := 266) (i := 0) (x := a0) dX13_cutAll_265 rfl rfl rfl ?_
        refine z_get 11 6 (q := 269) (v := .ref (a0 + 4)) rfl (z_lt rfl) (z_L11_T g_7) q1764 dX13_cutAll_266 rfl (z_fvR (fun _ _ _ => rfl) (z_L11_P6 g_7)) ?_
        refine z_iload_n (q := 270) (i := 1) (x := x1) dX13_cutAll_269 rfl rfl rfl ?_
        refine z_lload (q := 272) (i := 5) (x := y5) dX13_cutAll_270 rfl rfl ?_
        obtain ⟨g_9, hf⟩ := hf
        refine z_last (q := 273) (n := 1002) (z_L11_A6 g_7) g_9 dX13_cutAll_272 rfl ?_
        refine z_iinc (q := 276) (i := 1) (x := x1) (v := (x1 + 1)) (ls2 := [some (.ref a0), some (.int (x1 + 1)), some (.int x2), none, some (.int x4), some (.long y5), none]) dX13_cutAll_273 rfl rfl (z_lt rfl) rfl rfl ?_
        refine z_goto (q := 17) dX13_cutAll_276 rfl ?_
        refine z_prune [true, true, true, false, false, false, false] (ls2 := [some (.ref a0), some (.int (x1 + 1)), some (.int x2), none, none, none, none]) rfl ?_
        exact hf
      refine z_icmp_le (q := 143) (tgt := 147) dX13_cutAll_140 rfl rfl (fun hc => ?_) (fun hc => ?_)
      · have hk := (z_ite hk).1 hc
        refine z_iconst (q := 148) (v := 1) dX13_cutAll_147 rfl rfl ?_
        exact hk
      · have hk := (z_ite hk).2 hc
        refine z_iconst (q := 144) (v := 4) dX13_cutAll_143 rfl rfl ?_
        refine z_goto (q := 148) dX13_cutAll_144 rfl ?_
        exact hk
    · have hf := hf.2 hc
      refine z_iload_n (q := 91) (i := 2) (x := x2) dX13_cutAll_90 rfl rfl rfl ?_
      refine z_iload (q := 93) (i := 4) (x := x4) dX13_cutAll_91 rfl rfl ?_
      refine z_isub (q := 94) dX13_cutAll_93 rfl ?_
      refine z_bipush (q := 96) (v := 8) dX13_cutAll_94 (by decide) rfl ?_
      refine z_icmp_ge (q := 99) (tgt := 119) dX13_cutAll_96 rfl rfl (fun hc => ?_) (fun hc => ?_)
      · have hf := hf.1 hc
        refine z_lload (q := 121) (i := 5) (x := y5) dX13_cutAll_119 rfl rfl ?_
        refine z_lstore (q := 123) (i := 5) (ls2 := [some (.ref a0), some (.int x1), some (.int x2), none, some (.int x4), some (.long y5), none]) (x := y5) dX13_cutAll_121 (z_lt rfl) rfl rfl ?_
        refine z_iinc (q := 126) (i := 2) (x := x2) (v := (x2 + 1)) (ls2 := [some (.ref a0), some (.int x1), some (.int (x2 + 1)), none, some (.int x4), some (.long y5), none]) dX13_cutAll_123 rfl rfl (z_lt rfl) rfl rfl ?_
        refine z_goto (q := 70) dX13_cutAll_126 rfl ?_
        exact hf
      · have hf := hf.2 hc
        refine z_ldc2 (q := 102) (v := 37) dX13_cutAll_99 q1938 rfl ?_
        refine z_lload (q := 104) (i := 5) (x := y5) dX13_cutAll_102 rfl rfl ?_
        refine z_lmul (q := 105) dX13_cutAll_104 rfl ?_
        refine z_aload_n (q := 106) (i := 0) (x := a0) dX13_cutAll_105 rfl rfl rfl ?_
        obtain ⟨g_10, hf⟩ := hf
        refine z_get 11 1 (q := 109) (v := .ref (a0 + 1)) rfl (z_lt rfl) (z_L11_T g_10) q1759 dX13_cutAll_106 rfl (z_fvR (fun _ _ _ => rfl) (z_L11_P1 g_10)) ?_
        refine z_iload_n (q := 110) (i := 2) (x := x2) dX13_cutAll_109 rfl rfl rfl ?_
        obtain ⟨g_11, hf⟩ := hf
        refine z_iald (q := 111) (n := 1000) (z_L11_A1 g_10) g_11 dX13_cutAll_110 rfl ?_
        refine z_cSi m_X13_rank [.int (h_6.I (a0 + 1) (Int32.toNatClampNeg x2))] (q := 114) (rc2 := 0) (rs2 := 0) (st := [.long (37 * y5)]) dX13_cutAll_111 rfl q1939 oS_X13_rank rfl rfl ⟨z_le rfl, z_le rfl⟩ (z_le rfl) rfl  rfl hf (fun x_12 h_13 hf => ?_)
        refine z_i2l (q := 115) dX13_cutAll_114 rfl ?_
        refine z_ladd (q := 116) dX13_cutAll_115 rfl ?_
        refine z_goto (q := 121) dX13_cutAll_116 rfl ?_
        refine z_nmL (fun v_14 hv_15 => ?_)
        have hf := hf v_14 hv_15
        refine z_lstore (q := 123) (i := 5) (ls2 := [some (.ref a0), some (.int x1), some (.int x2), none, some (.int x4), some (.long v_14), none]) (x := v_14) dX13_cutAll_121 (z_lt rfl) rfl rfl ?_
        refine z_iinc (q := 126) (i := 2) (x := x2) (v := (x2 + 1)) (ls2 := [some (.ref a0), some (.int x1), some (.int (x2 + 1)), none, some (.int x4), some (.long v_14), none]) dX13_cutAll_123 rfl rfl (z_lt rfl) rfl rfl ?_
        refine z_goto (q := 70) dX13_cutAll_126 rfl ?_
        exact hf

theorem u_X13_deal {l : Launch} {G : z_G} {a0 : Nat} {h : z_H} {Q : z_Q} (hst : l.stackTraces = false)  (hf : z_L11 h a0 ∧ z_Ct l G m_X13_cutAll [.ref a0] (h.sI a0 0 0) (z_Qv (fun h_2 => z_L11 h_2 a0 ∧ vp_in 0 2 ∧ vp_in 1 2 ∧ z_V l G m_X13_deal (z_Fm G m_X13_deal Q) 0 0 (((h_2.sI a0 16 0).sI (a0 + 12) (Int32.toNatClampNeg 0) 0).sI (a0 + 12) (Int32.toNatClampNeg 1) 0) 28 [some (.ref a0), none] []))) : z_Ct l G m_X13_deal [.ref a0] h Q := by
  refine z_Ct.of (ls := [some (.ref a0), none]) hst rfl (by show plainName yX13_deal.cls = true; decide +kernel) (z_le rfl) rfl ?_
  show z_V l G m_X13_deal (z_Fm G m_X13_deal Q) 0 0 h 0 [some (.ref a0), none] []
  refine z_aload_n (q := 1) (i := 0) (x := a0) dX13_deal_0 rfl rfl rfl ?_
  refine z_iconst (q := 2) (v := 0) dX13_deal_1 rfl rfl ?_
  obtain ⟨g_1, hf⟩ := hf
  refine z_putI 11 0 (q := 5) (x := 0) (v := .int 0) rfl (z_lt rfl) (z_L11_T g_1) q1758 rfl dX13_deal_2 rfl rfl rfl rfl (fun _ _ _ => rfl) ?_
  refine z_aload_n (q := 6) (i := 0) (x := a0) dX13_deal_5 rfl rfl rfl ?_
  refine z_cVv m_X13_cutAll [] (a0) (q := 9) (rc2 := 0) (rs2 := 0) (st := []) dX13_deal_6 rfl q1931 oV_X13_cutAll rfl rfl ⟨z_le rfl, z_le rfl⟩ (z_le rfl) (z_rcv_of 11 rfl (z_L11_T g_1) rfl) rfl  rfl hf (fun h_2 hf => ?_)
  refine z_aload_n (q := 10) (i := 0) (x := a0) dX13_deal_9 rfl rfl rfl ?_
  refine z_iconst (q := 11) (v := 0) dX13_deal_10 rfl rfl ?_
  obtain ⟨g_3, hf⟩ := hf
  refine z_putI 11 16 (q := 14) (x := 0) (v := .int 0) rfl (z_lt rfl) (z_L11_T g_3) q1774 rfl dX13_deal_11 rfl rfl rfl rfl (fun _ _ _ => rfl) ?_
  refine z_aload_n (q := 15) (i := 0) (x := a0) dX13_deal_14 rfl rfl rfl ?_
  refine z_get 11 18 (q := 18) (v := .ref (a0 + 12)) rfl (z_lt rfl) (z_L11_T g_3) q1776 dX13_deal_15 rfl (z_fvR (fun _ _ _ => rfl) (z_L11_P18 g_3)) ?_
  refine z_iconst (q := 19) (v := 0) dX13_deal_18 rfl rfl ?_
  refine z_iconst (q := 20) (v := 0) dX13_deal_19 rfl rfl ?_
  obtain ⟨g_4, hf⟩ := hf
  refine z_iast (q := 21) (n := 2) (z_L11_A18 g_3) g_4 dX13_deal_20 rfl ?_
  refine z_aload_n (q := 22) (i := 0) (x := a0) dX13_deal_21 rfl rfl rfl ?_
  refine z_get 11 18 (q := 25) (v := .ref (a0 + 12)) rfl (z_lt rfl) (z_L11_T g_3) q1776 dX13_deal_22 rfl (z_fvR (fun _ _ _ => rfl) (z_L11_P18 g_3)) ?_
  refine z_iconst (q := 26) (v := 1) dX13_deal_25 rfl rfl ?_
  refine z_iconst (q := 27) (v := 0) dX13_deal_26 rfl rfl ?_
  obtain ⟨g_5, hf⟩ := hf
  refine z_iast (q := 28) (n := 2) (z_L11_A18 g_3) g_5 dX13_deal_27 rfl ?_
  exact hf

theorem b_X13_deal_28 {l : Launch} {G : z_G} {a0 : Nat} {h : z_H} {Q : z_Q}  (hf : z_L11 h a0 ∧ ((h.I a0 8) = 0 → vp_in (h.I a0 7) 1002 ∧ ((h.I (a0 + 2) (Int32.toNatClampNeg (h.I a0 7))) = 0 → ((h.I a0 8) ≤ 0 → z_Ct l G m_X13_dealsRead [.ref a0] h (z_Qv (fun h_4 => Q (some (.int 0)) h_4))) ∧ (¬ (h.I a0 8) ≤ 0 → Q (some (.int (h.I a0 8))) h)) ∧ (¬ (h.I (a0 + 2) (Int32.toNatClampNeg (h.I a0 7))) = 0 → z_Ct l G m_X13_wordHere [.ref a0, .int 12, .int 2] h (z_Qi (fun x_5 h_6 => (0 ≤ x_5 → z_L11 h_6 a0 ∧ ((((h_6.I a0 16) >>> (x_5 &&& 31)) &&& 1) = 1 → z_Ct l G m_X13_wrong [.ref a0, .int 3] h_6 (z_Qv (fun h_8 => z_V l G m_X13_deal (z_Fm G m_X13_deal Q) 0 0 h_8 84 [some (.ref a0), some (.int x_5)] []))) ∧ (¬ (((h_6.I a0 16) >>> (x_5 &&& 31)) &&& 1) = 1 → z_V l G m_X13_deal (z_Fm G m_X13_deal Q) 0 0 h_6 84 [some (.ref a0), some (.int x_5)] [])) ∧ (¬ 0 ≤ x_5 → z_L11 h_6 a0 ∧ z_Ct l G m_X13_wrong [.ref a0, .int 1] h_6 (z_Qv (fun h_10 => z_V l G m_X13_deal (z_Fm G m_X13_deal Q) 0 0 h_10 84 [some (.ref a0), some (.int x_5)] []))))))) ∧ (¬ (h.I a0 8) = 0 → ((h.I a0 8) ≤ 0 → z_Ct l G m_X13_dealsRead [.ref a0] h (z_Qv (fun h_2 => Q (some (.int 0)) h_2))) ∧ (¬ (h.I a0 8) ≤ 0 → Q (some (.int (h.I a0 8))) h))) : z_V l G m_X13_deal (z_Fm G m_X13_deal Q) 0 0 h 28 [some (.ref a0), none] [] := by
  refine z_aload_n (q := 29) (i := 0) (x := a0) dX13_deal_28 rfl rfl rfl ?_
  obtain ⟨g_1, hf⟩ := hf
  refine z_get 11 8 (q := 32) (v := .int (h.I a0 8)) rfl (z_lt rfl) (z_L11_T g_1) q1766 dX13_deal_29 rfl rfl ?_
  refine z_if_ne (q := 35) (tgt := 129) dX13_deal_32 rfl rfl (fun hc => ?_) (fun hc => ?_)
  · have hf := hf.2 hc
    refine z_aload_n (q := 130) (i := 0) (x := a0) dX13_deal_129 rfl rfl rfl ?_
    refine z_get 11 8 (q := 133) (v := .int (h.I a0 8)) rfl (z_lt rfl) (z_L11_T g_1) q1766 dX13_deal_130 rfl rfl ?_
    refine z_if_le (q := 136) (tgt := 141) dX13_deal_133 rfl rfl (fun hc => ?_) (fun hc => ?_)
    · have hf := hf.1 hc
      refine z_aload_n (q := 142) (i := 0) (x := a0) dX13_deal_141 rfl rfl rfl ?_
      refine z_cVv m_X13_dealsRead [] (a0) (q := 145) (rc2 := 0) (rs2 := 0) (st := []) dX13_deal_142 rfl q2050 oV_X13_dealsRead rfl rfl ⟨z_le rfl, z_le rfl⟩ (z_le rfl) (z_rcv_of 11 rfl (z_L11_T g_1) rfl) rfl  rfl hf (fun h_2 hf => ?_)
      refine z_iconst (q := 146) (v := 0) dX13_deal_145 rfl rfl ?_
      exact z_iret dX13_deal_146 rfl hf
    · have hf := hf.2 hc
      refine z_aload_n (q := 137) (i := 0) (x := a0) dX13_deal_136 rfl rfl rfl ?_
      refine z_get 11 8 (q := 140) (v := .int (h.I a0 8)) rfl (z_lt rfl) (z_L11_T g_1) q1766 dX13_deal_137 rfl rfl ?_
      exact z_iret dX13_deal_140 rfl hf
  · have hf := hf.1 hc
    refine z_aload_n (q := 36) (i := 0) (x := a0) dX13_deal_35 rfl rfl rfl ?_
    refine z_get 11 4 (q := 39) (v := .ref (a0 + 2)) rfl (z_lt rfl) (z_L11_T g_1) q1762 dX13_deal_36 rfl (z_fvR (fun _ _ _ => rfl) (z_L11_P4 g_1)) ?_
    refine z_aload_n (q := 40) (i := 0) (x := a0) dX13_deal_39 rfl rfl rfl ?_
    refine z_get 11 7 (q := 43) (v := .int (h.I a0 7)) rfl (z_lt rfl) (z_L11_T g_1) q1765 dX13_deal_40 rfl rfl ?_
    obtain ⟨g_3, hf⟩ := hf
    refine z_iald (q := 44) (n := 1002) (z_L11_A4 g_1) g_3 dX13_deal_43 rfl ?_
    refine z_if_eq (q := 47) (tgt := 129) dX13_deal_44 rfl rfl (fun hc => ?_) (fun hc => ?_)
    · have hf := hf.1 hc
      refine z_aload_n (q := 130) (i := 0) (x := a0) dX13_deal_129 rfl rfl rfl ?_
      refine z_get 11 8 (q := 133) (v := .int (h.I a0 8)) rfl (z_lt rfl) (z_L11_T g_1) q1766 dX13_deal_130 rfl rfl ?_
      refine z_if_le (q := 136) (tgt := 141) dX13_deal_133 rfl rfl (fun hc => ?_) (fun hc => ?_)
      · have hf := hf.1 hc
        refine z_aload_n (q := 142) (i := 0) (x := a0) dX13_deal_141 rfl rfl rfl ?_
        refine z_cVv m_X13_dealsRead [] (a0) (q := 145) (rc2 := 0) (rs2 := 0) (st := []) dX13_deal_142 rfl q2050 oV_X13_dealsRead rfl rfl ⟨z_le rfl, z_le rfl⟩ (z_le rfl) (z_rcv_of 11 rfl (z_L11_T g_1) rfl) rfl  rfl hf (fun h_4 hf => ?_)
        refine z_iconst (q := 146) (v := 0) dX13_deal_145 rfl rfl ?_
        exact z_iret dX13_deal_146 rfl hf
      · have hf := hf.2 hc
        refine z_aload_n (q := 137) (i := 0) (x := a0) dX13_deal_136 rfl rfl rfl ?_
        refine z_get 11 8 (q := 140) (v := .int (h.I a0 8)) rfl (z_lt rfl) (z_L11_T g_1) q1766 dX13_deal_137 rfl rfl ?_
        exact z_iret dX13_deal_140 rfl hf
    · have hf := hf.2 hc
      refine z_aload_n (q := 48) (i := 0) (x := a0) dX13_deal_47 rfl rfl rfl ?_
      refine z_bipush (q := 50) (v := 12) dX13_deal_48 (by decide) rfl ?_
      refine z_iconst (q := 51) (v := 2) dX13_deal_50 rfl rfl ?_
      refine z_cVi m_X13_wordHere [.int 12, .int 2] (a0) (q := 54) (rc2 := 0) (rs2 := 0) (st := []) dX13_deal_51 rfl q1998 oV_X13_wordHere rfl rfl ⟨z_le rfl, z_le rfl⟩ (z_le rfl) (z_rcv_of 11 rfl (z_L11_T g_1) rfl) rfl  rfl hf (fun x_5 h_6 hf => ?_)
      refine z_istore_n (q := 55) (i := 1) (ls2 := [some (.ref a0), some (.int x_5)]) (x := x_5) dX13_deal_54 rfl (z_lt rfl) rfl rfl ?_
      refine z_iload_n (q := 56) (i := 1) (x := x_5) dX13_deal_55 rfl rfl rfl ?_
      refine z_if_ge (q := 59) (tgt := 67) dX13_deal_56 rfl rfl (fun hc => ?_) (fun hc => ?_)
      · have hf := hf.1 hc
        refine z_aload_n (q := 68) (i := 0) (x := a0) dX13_deal_67 rfl rfl rfl ?_
        obtain ⟨g_7, hf⟩ := hf
        refine z_get 11 16 (q := 71) (v := .int (h_6.I a0 16)) rfl (z_lt rfl) (z_L11_T g_7) q1774 dX13_deal_68 rfl rfl ?_
        refine z_iload_n (q := 72) (i := 1) (x := x_5) dX13_deal_71 rfl rfl rfl ?_
        refine z_ishr (q := 73) dX13_deal_72 rfl ?_
        refine z_iconst (q := 74) (v := 1) dX13_deal_73 rfl rfl ?_
        refine z_iand (q := 75) dX13_deal_74 rfl ?_
        refine z_iconst (q := 76) (v := 1) dX13_deal_75 rfl rfl ?_
        refine z_icmp_ne (q := 79) (tgt := 84) dX13_deal_76 rfl rfl (fun hc => ?_) (fun hc => ?_)
        · have hf := hf.2 hc
          exact hf
        · have hf := hf.1 hc
          refine z_aload_n (q := 80) (i := 0) (x := a0) dX13_deal_79 rfl rfl rfl ?_
          refine z_iconst (q := 81) (v := 3) dX13_deal_80 rfl rfl ?_
          refine z_cVv m_X13_wrong [.int 3] (a0) (q := 84) (rc2 := 0) (rs2 := 0) (st := []) dX13_deal_81 rfl q1962 oV_X13_wrong rfl rfl ⟨z_le rfl, z_le rfl⟩ (z_le rfl) (z_rcv_of 11 rfl (z_L11_T g_7) rfl) rfl  rfl hf (fun h_8 hf => ?_)
          exact hf
      · have hf := hf.2 hc
        refine z_aload_n (q := 60) (i := 0) (x := a0) dX13_deal_59 rfl rfl rfl ?_
        refine z_iconst (q := 61) (v := 1) dX13_deal_60 rfl rfl ?_
        obtain ⟨g_9, hf⟩ := hf
        refine z_cVv m_X13_wrong [.int 1] (a0) (q := 64) (rc2 := 0) (rs2 := 0) (st := []) dX13_deal_61 rfl q1962 oV_X13_wrong rfl rfl ⟨z_le rfl, z_le rfl⟩ (z_le rfl) (z_rcv_of 11 rfl (z_L11_T g_9) rfl) rfl  rfl hf (fun h_10 hf => ?_)
        refine z_goto (q := 84) dX13_deal_64 rfl ?_
        exact hf

theorem b_X13_deal_84 {l : Launch} {G : z_G} {a0 : Nat} {x1 : Int32} {h : z_H} {Q : z_Q}  (hf : z_L11 h a0 ∧ ((h.I a0 8) = 0 → z_Ct l G m_X13_readRow [.ref a0, .int x1, .int 24] ((h.sI a0 16 ((h.I a0 16) ||| (1 <<< (x1 &&& 31)))).sI a0 7 ((h.I a0 7) + 1)) (z_Qv (fun h_3 => z_L11 h_3 a0 ∧ z_Ct l G m_X13_takeSign [.ref a0, .int 59] h_3 (z_Qv (fun h_5 => z_V l G m_X13_deal (z_Fm G m_X13_deal Q) 0 0 h_5 28 [some (.ref a0), none] []))))) ∧ (¬ (h.I a0 8) = 0 → z_Ct l G m_X13_takeSign [.ref a0, .int 59] h (z_Qv (fun h_2 => z_V l G m_X13_deal (z_Fm G m_X13_deal Q) 0 0 h_2 28 [some (.ref a0), none] [])))) : z_V l G m_X13_deal (z_Fm G m_X13_deal Q) 0 0 h 84 [some (.ref a0), some (.int x1)] [] := by
  refine z_aload_n (q := 85) (i := 0) (x := a0) dX13_deal_84 rfl rfl rfl ?_
  obtain ⟨g_1, hf⟩ := hf
  refine z_get 11 8 (q := 88) (v := .int (h.I a0 8)) rfl (z_lt rfl) (z_L11_T g_1) q1766 dX13_deal_85 rfl rfl ?_
  refine z_if_ne (q := 91) (tgt := 120) dX13_deal_88 rfl rfl (fun hc => ?_) (fun hc => ?_)
  · have hf := hf.2 hc
    refine z_aload_n (q := 121) (i := 0) (x := a0) dX13_deal_120 rfl rfl rfl ?_
    refine z_bipush (q := 123) (v := 59) dX13_deal_121 (by decide) rfl ?_
    refine z_cVv m_X13_takeSign [.int 59] (a0) (q := 126) (rc2 := 0) (rs2 := 0) (st := []) dX13_deal_123 rfl q2038 oV_X13_takeSign rfl rfl ⟨z_le rfl, z_le rfl⟩ (z_le rfl) (z_rcv_of 11 rfl (z_L11_T g_1) rfl) rfl  rfl hf (fun h_2 hf => ?_)
    refine z_goto (q := 28) dX13_deal_126 rfl ?_
    refine z_prune [true, false] (ls2 := [some (.ref a0), none]) rfl ?_
    exact hf
  · have hf := hf.1 hc
    refine z_aload_n (q := 92) (i := 0) (x := a0) dX13_deal_91 rfl rfl rfl ?_
    refine z_dup (q := 93) dX13_deal_92 rfl rfl ?_
    refine z_get 11 16 (q := 96) (v := .int (h.I a0 16)) rfl (z_lt rfl) (z_L11_T g_1) q1774 dX13_deal_93 rfl rfl ?_
    refine z_iconst (q := 97) (v := 1) dX13_deal_96 rfl rfl ?_
    refine z_iload_n (q := 98) (i := 1) (x := x1) dX13_deal_97 rfl rfl rfl ?_
    refine z_ishl (q := 99) dX13_deal_98 rfl ?_
    refine z_ior (q := 100) dX13_deal_99 rfl ?_
    refine z_putI 11 16 (q := 103) (x := ((h.I a0 16) ||| (1 <<< (x1 &&& 31)))) (v := .int ((h.I a0 16) ||| (1 <<< (x1 &&& 31)))) rfl (z_lt rfl) (z_L11_T g_1) q1774 rfl dX13_deal_100 rfl rfl rfl rfl (fun _ _ _ => rfl) ?_
    refine z_aload_n (q := 104) (i := 0) (x := a0) dX13_deal_103 rfl rfl rfl ?_
    refine z_dup (q := 105) dX13_deal_104 rfl rfl ?_
    refine z_get 11 7 (q := 108) (v := .int (h.I a0 7)) rfl (z_lt rfl) (z_L11_T g_1) q1765 dX13_deal_105 rfl (congrArg Value.int (z_rIf (by decide))) ?_
    refine z_iconst (q := 109) (v := 1) dX13_deal_108 rfl rfl ?_
    refine z_iadd (q := 110) dX13_deal_109 rfl ?_
    refine z_putI 11 7 (q := 113) (x := ((h.I a0 7) + 1)) (v := .int ((h.I a0 7) + 1)) rfl (z_lt rfl) (z_L11_T g_1) q1765 rfl dX13_deal_110 rfl rfl rfl rfl (fun _ _ _ => rfl) ?_
    refine z_aload_n (q := 114) (i := 0) (x := a0) dX13_deal_113 rfl rfl rfl ?_
    refine z_iload_n (q := 115) (i := 1) (x := x1) dX13_deal_114 rfl rfl rfl ?_
    refine z_bipush (q := 117) (v := 24) dX13_deal_115 (by decide) rfl ?_
    refine z_cVv m_X13_readRow [.int x1, .int 24] (a0) (q := 120) (rc2 := 0) (rs2 := 0) (st := []) dX13_deal_117 rfl q2046 oV_X13_readRow rfl rfl ⟨z_le rfl, z_le rfl⟩ (z_le rfl) (z_rcv_of 11 rfl (z_L11_T g_1) rfl) rfl  rfl hf (fun h_3 hf => ?_)
    refine z_aload_n (q := 121) (i := 0) (x := a0) dX13_deal_120 rfl rfl rfl ?_
    refine z_bipush (q := 123) (v := 59) dX13_deal_121 (by decide) rfl ?_
    obtain ⟨g_4, hf⟩ := hf
    refine z_cVv m_X13_takeSign [.int 59] (a0) (q := 126) (rc2 := 0) (rs2 := 0) (st := []) dX13_deal_123 rfl q2038 oV_X13_takeSign rfl rfl ⟨z_le rfl, z_le rfl⟩ (z_le rfl) (z_rcv_of 11 rfl (z_L11_T g_4) rfl) rfl  rfl hf (fun h_5 hf => ?_)
    refine z_goto (q := 28) dX13_deal_126 rfl ?_
    refine z_prune [true, false] (ls2 := [some (.ref a0), none]) rfl ?_
    exact hf

theorem u_X13_dealsRead {l : Launch} {G : z_G} {a0 : Nat} {h : z_H} {Q : z_Q} (hst : l.stackTraces = false)  (hf : z_L11 h a0 ∧ vp_in 15 16560 ∧ z_V l G m_X13_dealsRead (z_Fm G m_X13_dealsRead Q) 0 0 (h.sI (a0 + 16) (Int32.toNatClampNeg 15) 1) 10 [some (.ref a0), some (.int 0), none] []) : z_Ct l G m_X13_dealsRead [.ref a0] h Q := by
  refine z_Ct.of (ls := [some (.ref a0), none, none]) hst rfl (by show plainName yX13_dealsRead.cls = true; decide +kernel) (z_le rfl) rfl ?_
  show z_V l G m_X13_dealsRead (z_Fm G m_X13_dealsRead Q) 0 0 h 0 [some (.ref a0), none, none] []
  refine z_aload_n (q := 1) (i := 0) (x := a0) dX13_dealsRead_0 rfl rfl rfl ?_
  obtain ⟨g_1, hf⟩ := hf
  refine z_get 11 22 (q := 4) (v := .ref (a0 + 16)) rfl (z_lt rfl) (z_L11_T g_1) q1780 dX13_dealsRead_1 rfl (z_fvR (fun _ _ _ => rfl) (z_L11_P22 g_1)) ?_
  refine z_bipush (q := 6) (v := 15) dX13_dealsRead_4 (by decide) rfl ?_
  refine z_iconst (q := 7) (v := 1) dX13_dealsRead_6 rfl rfl ?_
  obtain ⟨g_2, hf⟩ := hf
  refine z_iast (q := 8) (n := 16560) (z_L11_A22 g_1) g_2 dX13_dealsRead_7 rfl ?_
  refine z_iconst (q := 9) (v := 0) dX13_dealsRead_8 rfl rfl ?_
  refine z_istore_n (q := 10) (i := 1) (ls2 := [some (.ref a0), some (.int 0), none]) (x := 0) dX13_dealsRead_9 rfl (z_lt rfl) rfl rfl ?_
  exact hf

theorem b_X13_dealsRead_10 {l : Launch} {G : z_G} {a0 : Nat} {x1 : Int32} {h : z_H} {Q : z_Q}  (hf : (2 ≤ x1 → z_L11 h a0 ∧ z_Ct l G m_X13_begins [.ref a0, .int 0] h (z_Qv (fun h_2 => z_L11 h_2 a0 ∧ Q none (h_2.sI a0 23 0)))) ∧ (¬ 2 ≤ x1 → z_L11 h a0 ∧ vp_in x1 2 ∧ vp_in (16 + x1) 16560 ∧ z_V l G m_X13_dealsRead (z_Fm G m_X13_dealsRead Q) 0 0 (h.sI (a0 + 16) (Int32.toNatClampNeg (16 + x1)) (h.I (a0 + 12) (Int32.toNatClampNeg x1))) 32 [some (.ref a0), some (.int x1), some (.int 0)] [])) : z_V l G m_X13_dealsRead (z_Fm G m_X13_dealsRead Q) 0 0 h 10 [some (.ref a0), some (.int x1), none] [] := by
  refine z_iload_n (q := 11) (i := 1) (x := x1) dX13_dealsRead_10 rfl rfl rfl ?_
  refine z_iconst (q := 12) (v := 2) dX13_dealsRead_11 rfl rfl ?_
  refine z_icmp_ge (q := 15) (tgt := 80) dX13_dealsRead_12 rfl rfl (fun hc => ?_) (fun hc => ?_)
  · have hf := hf.1 hc
    refine z_aload_n (q := 81) (i := 0) (x := a0) dX13_dealsRead_80 rfl rfl rfl ?_
    refine z_iconst (q := 82) (v := 0) dX13_dealsRead_81 rfl rfl ?_
    obtain ⟨g_1, hf⟩ := hf
    refine z_cVv m_X13_begins [.int 0] (a0) (q := 85) (rc2 := 0) (rs2 := 0) (st := []) dX13_dealsRead_82 rfl q1754 oV_X13_begins rfl rfl ⟨z_le rfl, z_le rfl⟩ (z_le rfl) (z_rcv_of 11 rfl (z_L11_T g_1) rfl) rfl  rfl hf (fun h_2 hf => ?_)
    refine z_aload_n (q := 86) (i := 0) (x := a0) dX13_dealsRead_85 rfl rfl rfl ?_
    refine z_iconst (q := 87) (v := 0) dX13_dealsRead_86 rfl rfl ?_
    obtain ⟨g_3, hf⟩ := hf
    refine z_putI 11 23 (q := 90) (x := 0) (v := .int 0) rfl (z_lt rfl) (z_L11_T g_3) q1781 rfl dX13_dealsRead_87 rfl rfl rfl rfl (fun _ _ _ => rfl) ?_
    exact z_vret dX13_dealsRead_90 rfl hf
  · have hf := hf.2 hc
    refine z_aload_n (q := 16) (i := 0) (x := a0) dX13_dealsRead_15 rfl rfl rfl ?_
    obtain ⟨g_4, hf⟩ := hf
    refine z_get 11 22 (q := 19) (v := .ref (a0 + 16)) rfl (z_lt rfl) (z_L11_T g_4) q1780 dX13_dealsRead_16 rfl (z_fvR (fun _ _ _ => rfl) (z_L11_P22 g_4)) ?_
    refine z_bipush (q := 21) (v := 16) dX13_dealsRead_19 (by decide) rfl ?_
    refine z_iload_n (q := 22) (i := 1) (x := x1) dX13_dealsRead_21 rfl rfl rfl ?_
    refine z_iadd (q := 23) dX13_dealsRead_22 rfl ?_
    refine z_aload_n (q := 24) (i := 0) (x := a0) dX13_dealsRead_23 rfl rfl rfl ?_
    refine z_get 11 18 (q := 27) (v := .ref (a0 + 12)) rfl (z_lt rfl) (z_L11_T g_4) q1776 dX13_dealsRead_24 rfl (z_fvR (fun _ _ _ => rfl) (z_L11_P18 g_4)) ?_
    refine z_iload_n (q := 28) (i := 1) (x := x1) dX13_dealsRead_27 rfl rfl rfl ?_
    obtain ⟨g_5, hf⟩ := hf
    refine z_iald (q := 29) (n := 2) (z_L11_A18 g_4) g_5 dX13_dealsRead_28 rfl ?_
    obtain ⟨g_6, hf⟩ := hf
    refine z_iast (q := 30) (n := 16560) (z_L11_A22 g_4) g_6 dX13_dealsRead_29 rfl ?_
    refine z_iconst (q := 31) (v := 0) dX13_dealsRead_30 rfl rfl ?_
    refine z_istore_n (q := 32) (i := 2) (ls2 := [some (.ref a0), some (.int x1), some (.int 0)]) (x := 0) dX13_dealsRead_31 rfl (z_lt rfl) rfl rfl ?_
    exact hf

theorem b_X13_dealsRead_32 {l : Launch} {G : z_G} {a0 : Nat} {x1 : Int32} {x2 : Int32} {h : z_H} {Q : z_Q}  (hf : z_L11 h a0 ∧ vp_in x1 2 ∧ ((h.I (a0 + 12) (Int32.toNatClampNeg x1)) ≤ x2 → z_V l G m_X13_dealsRead (z_Fm G m_X13_dealsRead Q) 0 0 h 10 [some (.ref a0), some (.int (x1 + 1)), none] []) ∧ (¬ (h.I (a0 + 12) (Int32.toNatClampNeg x1)) ≤ x2 → vp_in ((24 * x1) + x2) 48 ∧ vp_in ((212 + (24 * x1)) + x2) 16560 ∧ z_V l G m_X13_dealsRead (z_Fm G m_X13_dealsRead Q) 0 0 (h.sI (a0 + 16) (Int32.toNatClampNeg ((212 + (24 * x1)) + x2)) (h.I (a0 + 11) (Int32.toNatClampNeg ((24 * x1) + x2)))) 32 [some (.ref a0), some (.int x1), some (.int (x2 + 1))] [])) : z_V l G m_X13_dealsRead (z_Fm G m_X13_dealsRead Q) 0 0 h 32 [some (.ref a0), some (.int x1), some (.int x2)] [] := by
  refine z_iload_n (q := 33) (i := 2) (x := x2) dX13_dealsRead_32 rfl rfl rfl ?_
  refine z_aload_n (q := 34) (i := 0) (x := a0) dX13_dealsRead_33 rfl rfl rfl ?_
  obtain ⟨g_1, hf⟩ := hf
  refine z_get 11 18 (q := 37) (v := .ref (a0 + 12)) rfl (z_lt rfl) (z_L11_T g_1) q1776 dX13_dealsRead_34 rfl (z_fvR (fun _ _ _ => rfl) (z_L11_P18 g_1)) ?_
  refine z_iload_n (q := 38) (i := 1) (x := x1) dX13_dealsRead_37 rfl rfl rfl ?_
  obtain ⟨g_2, hf⟩ := hf
  refine z_iald (q := 39) (n := 2) (z_L11_A18 g_1) g_2 dX13_dealsRead_38 rfl ?_
  refine z_icmp_ge (q := 42) (tgt := 74) dX13_dealsRead_39 rfl rfl (fun hc => ?_) (fun hc => ?_)
  · have hf := hf.1 hc
    refine z_iinc (q := 77) (i := 1) (x := x1) (v := (x1 + 1)) (ls2 := [some (.ref a0), some (.int (x1 + 1)), some (.int x2)]) dX13_dealsRead_74 rfl rfl (z_lt rfl) rfl rfl ?_
    refine z_goto (q := 10) dX13_dealsRead_77 rfl ?_
    refine z_prune [true, true, false] (ls2 := [some (.ref a0), some (.int (x1 + 1)), none]) rfl ?_
    exact hf
  · have hf := hf.2 hc
    refine z_aload_n (q := 43) (i := 0) (x := a0) dX13_dealsRead_42 rfl rfl rfl ?_
    refine z_get 11 22 (q := 46) (v := .ref (a0 + 16)) rfl (z_lt rfl) (z_L11_T g_1) q1780 dX13_dealsRead_43 rfl (z_fvR (fun _ _ _ => rfl) (z_L11_P22 g_1)) ?_
    refine z_sipush (q := 49) (v := 212) dX13_dealsRead_46 (by decide) rfl ?_
    refine z_bipush (q := 51) (v := 24) dX13_dealsRead_49 (by decide) rfl ?_
    refine z_iload_n (q := 52) (i := 1) (x := x1) dX13_dealsRead_51 rfl rfl rfl ?_
    refine z_imul (q := 53) dX13_dealsRead_52 rfl ?_
    refine z_iadd (q := 54) dX13_dealsRead_53 rfl ?_
    refine z_iload_n (q := 55) (i := 2) (x := x2) dX13_dealsRead_54 rfl rfl rfl ?_
    refine z_iadd (q := 56) dX13_dealsRead_55 rfl ?_
    refine z_aload_n (q := 57) (i := 0) (x := a0) dX13_dealsRead_56 rfl rfl rfl ?_
    refine z_get 11 17 (q := 60) (v := .ref (a0 + 11)) rfl (z_lt rfl) (z_L11_T g_1) q1775 dX13_dealsRead_57 rfl (z_fvR (fun _ _ _ => rfl) (z_L11_P17 g_1)) ?_
    refine z_bipush (q := 62) (v := 24) dX13_dealsRead_60 (by decide) rfl ?_
    refine z_iload_n (q := 63) (i := 1) (x := x1) dX13_dealsRead_62 rfl rfl rfl ?_
    refine z_imul (q := 64) dX13_dealsRead_63 rfl ?_
    refine z_iload_n (q := 65) (i := 2) (x := x2) dX13_dealsRead_64 rfl rfl rfl ?_
    refine z_iadd (q := 66) dX13_dealsRead_65 rfl ?_
    obtain ⟨g_3, hf⟩ := hf
    refine z_iald (q := 67) (n := 48) (z_L11_A17 g_1) g_3 dX13_dealsRead_66 rfl ?_
    obtain ⟨g_4, hf⟩ := hf
    refine z_iast (q := 68) (n := 16560) (z_L11_A22 g_1) g_4 dX13_dealsRead_67 rfl ?_
    refine z_iinc (q := 71) (i := 2) (x := x2) (v := (x2 + 1)) (ls2 := [some (.ref a0), some (.int x1), some (.int (x2 + 1))]) dX13_dealsRead_68 rfl rfl (z_lt rfl) rfl rfl ?_
    refine z_goto (q := 32) dX13_dealsRead_71 rfl ?_
    exact hf

theorem u_X13_dealsTrial {l : Launch} {G : z_G} {a0 : Nat} {a1 : Nat} {x2 : Int32} {x3 : Int32} {h : z_H} {Q : z_Q} (hst : l.stackTraces = false)  (hf : z_V l G m_X13_dealsTrial (z_Fm G m_X13_dealsTrial Q) 0 0 h 3 [some (.ref a0), some (.ref a1), some (.int x2), some (.int x3), some (.int 0), none, none] []) : z_Ct l G m_X13_dealsTrial [.ref a0, .ref a1, .int x2, .int x3] h Q := by
  refine z_Ct.of (ls := [some (.ref a0), some (.ref a1), some (.int x2), some (.int x3), none, none, none]) hst rfl (by show plainName yX13_dealsTrial.cls = true; decide +kernel) (z_le rfl) rfl ?_
  show z_V l G m_X13_dealsTrial (z_Fm G m_X13_dealsTrial Q) 0 0 h 0 [some (.ref a0), some (.ref a1), some (.int x2), some (.int x3), none, none, none] []
  refine z_iconst (q := 1) (v := 0) dX13_dealsTrial_0 rfl rfl ?_
  refine z_istore (q := 3) (i := 4) (ls2 := [some (.ref a0), some (.ref a1), some (.int x2), some (.int x3), some (.int 0), none, none]) (x := 0) dX13_dealsTrial_1 (z_lt rfl) rfl rfl ?_
  exact hf

theorem b_X13_dealsTrial_3 {l : Launch} {G : z_G} {a0 : Nat} {a1 : Nat} {x2 : Int32} {x3 : Int32} {x4 : Int32} {h : z_H} {Q : z_Q}  (hf : (2 ≤ x4 → z_L11 h a0 ∧ z_Ct l G m_X13_begins [.ref a0, .int 9660] h (z_Qv (fun h_2 => z_L11 h_2 a0 ∧ vp_in 9663 16560 ∧ Q none (h_2.sI (a0 + 16) (Int32.toNatClampNeg 9663) x3)))) ∧ (¬ 2 ≤ x4 → z_L11 h a0 ∧ vp_in (9676 + x4) 16560 ∧ z_V l G m_X13_dealsTrial (z_Fm G m_X13_dealsTrial Q) 0 0 (h.sI (a0 + 16) (Int32.toNatClampNeg (9676 + x4)) (if x4 = 0 then ((x2 + 1) / 2) else (x2 - ((x2 + 1) / 2)))) 44 [some (.ref a0), some (.ref a1), some (.int x2), some (.int x3), some (.int x4), some (.int ((x2 + 1) / 2)), some (.int 0)] [])) : z_V l G m_X13_dealsTrial (z_Fm G m_X13_dealsTrial Q) 0 0 h 3 [some (.ref a0), some (.ref a1), some (.int x2), some (.int x3), some (.int x4), none, none] [] := by
  refine z_iload (q := 5) (i := 4) (x := x4) dX13_dealsTrial_3 rfl rfl ?_
  refine z_iconst (q := 6) (v := 2) dX13_dealsTrial_5 rfl rfl ?_
  refine z_icmp_ge (q := 9) (tgt := 106) dX13_dealsTrial_6 rfl rfl (fun hc => ?_) (fun hc => ?_)
  · have hf := hf.1 hc
    refine z_aload_n (q := 107) (i := 0) (x := a0) dX13_dealsTrial_106 rfl rfl rfl ?_
    refine z_sipush (q := 110) (v := 9660) dX13_dealsTrial_107 (by decide) rfl ?_
    obtain ⟨g_1, hf⟩ := hf
    refine z_cVv m_X13_begins [.int 9660] (a0) (q := 113) (rc2 := 0) (rs2 := 0) (st := []) dX13_dealsTrial_110 rfl q1754 oV_X13_begins rfl rfl ⟨z_le rfl, z_le rfl⟩ (z_le rfl) (z_rcv_of 11 rfl (z_L11_T g_1) rfl) rfl  rfl hf (fun h_2 hf => ?_)
    refine z_aload_n (q := 114) (i := 0) (x := a0) dX13_dealsTrial_113 rfl rfl rfl ?_
    obtain ⟨g_3, hf⟩ := hf
    refine z_get 11 22 (q := 117) (v := .ref (a0 + 16)) rfl (z_lt rfl) (z_L11_T g_3) q1780 dX13_dealsTrial_114 rfl (z_fvR (fun _ _ _ => rfl) (z_L11_P22 g_3)) ?_
    refine z_sipush (q := 120) (v := 9663) dX13_dealsTrial_117 (by decide) rfl ?_
    refine z_iload_n (q := 121) (i := 3) (x := x3) dX13_dealsTrial_120 rfl rfl rfl ?_
    obtain ⟨g_4, hf⟩ := hf
    refine z_iast (q := 122) (n := 16560) (z_L11_A22 g_3) g_4 dX13_dealsTrial_121 rfl ?_
    exact z_vret dX13_dealsTrial_122 rfl hf
  · have hf := hf.2 hc
    refine z_iload_n (q := 10) (i := 2) (x := x2) dX13_dealsTrial_9 rfl rfl rfl ?_
    refine z_iconst (q := 11) (v := 1) dX13_dealsTrial_10 rfl rfl ?_
    refine z_iadd (q := 12) dX13_dealsTrial_11 rfl ?_
    refine z_iconst (q := 13) (v := 2) dX13_dealsTrial_12 rfl rfl ?_
    refine z_idiv (q := 14) dX13_dealsTrial_13 (by decide) rfl ?_
    refine z_istore (q := 16) (i := 5) (ls2 := [some (.ref a0), some (.ref a1), some (.int x2), some (.int x3), some (.int x4), some (.int ((x2 + 1) / 2)), none]) (x := ((x2 + 1) / 2)) dX13_dealsTrial_14 (z_lt rfl) rfl rfl ?_
    refine z_aload_n (q := 17) (i := 0) (x := a0) dX13_dealsTrial_16 rfl rfl rfl ?_
    obtain ⟨g_5, hf⟩ := hf
    refine z_get 11 22 (q := 20) (v := .ref (a0 + 16)) rfl (z_lt rfl) (z_L11_T g_5) q1780 dX13_dealsTrial_17 rfl (z_fvR (fun _ _ _ => rfl) (z_L11_P22 g_5)) ?_
    refine z_sipush (q := 23) (v := 9676) dX13_dealsTrial_20 (by decide) rfl ?_
    refine z_iload (q := 25) (i := 4) (x := x4) dX13_dealsTrial_23 rfl rfl ?_
    refine z_iadd (q := 26) dX13_dealsTrial_25 rfl ?_
    refine z_iload (q := 28) (i := 4) (x := x4) dX13_dealsTrial_26 rfl rfl ?_
    have hk : z_V l G m_X13_dealsTrial (z_Fm G m_X13_dealsTrial Q) 0 0 h 40 [some (.ref a0), some (.ref a1), some (.int x2), some (.int x3), some (.int x4), some (.int ((x2 + 1) / 2)), none] [.int (if x4 = 0 then ((x2 + 1) / 2) else (x2 - ((x2 + 1) / 2))), .int (9676 + x4), .ref (a0 + 16)] := by
      obtain ⟨g_6, hf⟩ := hf
      refine z_iast (q := 41) (n := 16560) (z_L11_A22 g_5) g_6 dX13_dealsTrial_40 rfl ?_
      refine z_iconst (q := 42) (v := 0) dX13_dealsTrial_41 rfl rfl ?_
      refine z_istore (q := 44) (i := 6) (ls2 := [some (.ref a0), some (.ref a1), some (.int x2), some (.int x3), some (.int x4), some (.int ((x2 + 1) / 2)), some (.int 0)]) (x := 0) dX13_dealsTrial_42 (z_lt rfl) rfl rfl ?_
      exact hf
    refine z_if_ne (q := 31) (tgt := 36) dX13_dealsTrial_28 rfl rfl (fun hc => ?_) (fun hc => ?_)
    · have hk := (z_ite hk).2 hc
      refine z_iload_n (q := 37) (i := 2) (x := x2) dX13_dealsTrial_36 rfl rfl rfl ?_
      refine z_iload (q := 39) (i := 5) (x := ((x2 + 1) / 2)) dX13_dealsTrial_37 rfl rfl ?_
      refine z_isub (q := 40) dX13_dealsTrial_39 rfl ?_
      exact hk
    · have hk := (z_ite hk).1 hc
      refine z_iload (q := 33) (i := 5) (x := ((x2 + 1) / 2)) dX13_dealsTrial_31 rfl rfl ?_
      refine z_goto (q := 40) dX13_dealsTrial_33 rfl ?_
      exact hk

theorem b_X13_dealsTrial_44 {l : Launch} {G : z_G} {a0 : Nat} {a1 : Nat} {x2 : Int32} {x3 : Int32} {x4 : Int32} {x5 : Int32} {x6 : Int32} {h : z_H} {Q : z_Q}  (hf : z_L11 h a0 ∧ vp_in (9676 + x4) 16560 ∧ ((h.I (a0 + 16) (Int32.toNatClampNeg (9676 + x4))) ≤ x6 → z_V l G m_X13_dealsTrial (z_Fm G m_X13_dealsTrial Q) 0 0 h 3 [some (.ref a0), some (.ref a1), some (.int x2), some (.int x3), some (.int (x4 + 1)), none, none] []) ∧ (¬ (h.I (a0 + 16) (Int32.toNatClampNeg (9676 + x4))) ≤ x6 → ∃ n_3, h.T a1 = (1, n_3) ∧ vp_in (if x4 = 0 then x6 else (x5 + x6)) n_3 ∧ vp_in ((9872 + (24 * x4)) + x6) 16560 ∧ z_V l G m_X13_dealsTrial (z_Fm G m_X13_dealsTrial Q) 0 0 (h.sI (a0 + 16) (Int32.toNatClampNeg ((9872 + (24 * x4)) + x6)) (h.I a1 (Int32.toNatClampNeg (if x4 = 0 then x6 else (x5 + x6))))) 44 [some (.ref a0), some (.ref a1), some (.int x2), some (.int x3), some (.int x4), some (.int x5), some (.int (x6 + 1))] [])) : z_V l G m_X13_dealsTrial (z_Fm G m_X13_dealsTrial Q) 0 0 h 44 [some (.ref a0), some (.ref a1), some (.int x2), some (.int x3), some (.int x4), some (.int x5), some (.int x6)] [] := by
  refine z_iload (q := 46) (i := 6) (x := x6) dX13_dealsTrial_44 rfl rfl ?_
  refine z_aload_n (q := 47) (i := 0) (x := a0) dX13_dealsTrial_46 rfl rfl rfl ?_
  obtain ⟨g_1, hf⟩ := hf
  refine z_get 11 22 (q := 50) (v := .ref (a0 + 16)) rfl (z_lt rfl) (z_L11_T g_1) q1780 dX13_dealsTrial_47 rfl (z_fvR (fun _ _ _ => rfl) (z_L11_P22 g_1)) ?_
  refine z_sipush (q := 53) (v := 9676) dX13_dealsTrial_50 (by decide) rfl ?_
  refine z_iload (q := 55) (i := 4) (x := x4) dX13_dealsTrial_53 rfl rfl ?_
  refine z_iadd (q := 56) dX13_dealsTrial_55 rfl ?_
  obtain ⟨g_2, hf⟩ := hf
  refine z_iald (q := 57) (n := 16560) (z_L11_A22 g_1) g_2 dX13_dealsTrial_56 rfl ?_
  refine z_icmp_ge (q := 60) (tgt := 100) dX13_dealsTrial_57 rfl rfl (fun hc => ?_) (fun hc => ?_)
  · have hf := hf.1 hc
    refine z_iinc (q := 103) (i := 4) (x := x4) (v := (x4 + 1)) (ls2 := [some (.ref a0), some (.ref a1), some (.int x2), some (.int x3), some (.int (x4 + 1)), some (.int x5), some (.int x6)]) dX13_dealsTrial_100 rfl rfl (z_lt rfl) rfl rfl ?_
    refine z_goto (q := 3) dX13_dealsTrial_103 rfl ?_
    refine z_prune [true, true, true, true, true, false, false] (ls2 := [some (.ref a0), some (.ref a1), some (.int x2), some (.int x3), some (.int (x4 + 1)), none, none]) rfl ?_
    exact hf
  · have hf := hf.2 hc
    refine z_aload_n (q := 61) (i := 0) (x := a0) dX13_dealsTrial_60 rfl rfl rfl ?_
    refine z_get 11 22 (q := 64) (v := .ref (a0 + 16)) rfl (z_lt rfl) (z_L11_T g_1) q1780 dX13_dealsTrial_61 rfl (z_fvR (fun _ _ _ => rfl) (z_L11_P22 g_1)) ?_
    refine z_sipush (q := 67) (v := 9872) dX13_dealsTrial_64 (by decide) rfl ?_
    refine z_bipush (q := 69) (v := 24) dX13_dealsTrial_67 (by decide) rfl ?_
    refine z_iload (q := 71) (i := 4) (x := x4) dX13_dealsTrial_69 rfl rfl ?_
    refine z_imul (q := 72) dX13_dealsTrial_71 rfl ?_
    refine z_iadd (q := 73) dX13_dealsTrial_72 rfl ?_
    refine z_iload (q := 75) (i := 6) (x := x6) dX13_dealsTrial_73 rfl rfl ?_
    refine z_iadd (q := 76) dX13_dealsTrial_75 rfl ?_
    refine z_aload_n (q := 77) (i := 1) (x := a1) dX13_dealsTrial_76 rfl rfl rfl ?_
    refine z_iload (q := 79) (i := 4) (x := x4) dX13_dealsTrial_77 rfl rfl ?_
    have hk : z_V l G m_X13_dealsTrial (z_Fm G m_X13_dealsTrial Q) 0 0 h 92 [some (.ref a0), some (.ref a1), some (.int x2), some (.int x3), some (.int x4), some (.int x5), some (.int x6)] [.int (if x4 = 0 then x6 else (x5 + x6)), .ref a1, .int ((9872 + (24 * x4)) + x6), .ref (a0 + 16)] := by
      obtain ⟨n_3, g_4, hf⟩ := hf
      obtain ⟨g_5, hf⟩ := hf
      refine z_iald (q := 93) (n := n_3) g_4 g_5 dX13_dealsTrial_92 rfl ?_
      obtain ⟨g_6, hf⟩ := hf
      refine z_iast (q := 94) (n := 16560) (z_L11_A22 g_1) g_6 dX13_dealsTrial_93 rfl ?_
      refine z_iinc (q := 97) (i := 6) (x := x6) (v := (x6 + 1)) (ls2 := [some (.ref a0), some (.ref a1), some (.int x2), some (.int x3), some (.int x4), some (.int x5), some (.int (x6 + 1))]) dX13_dealsTrial_94 rfl rfl (z_lt rfl) rfl rfl ?_
      refine z_goto (q := 44) dX13_dealsTrial_97 rfl ?_
      exact hf
    refine z_if_ne (q := 82) (tgt := 87) dX13_dealsTrial_79 rfl rfl (fun hc => ?_) (fun hc => ?_)
    · have hk := (z_ite hk).2 hc
      refine z_iload (q := 89) (i := 5) (x := x5) dX13_dealsTrial_87 rfl rfl ?_
      refine z_iload (q := 91) (i := 6) (x := x6) dX13_dealsTrial_89 rfl rfl ?_
      refine z_iadd (q := 92) dX13_dealsTrial_91 rfl ?_
      exact hk
    · have hk := (z_ite hk).1 hc
      refine z_iload (q := 84) (i := 6) (x := x6) dX13_dealsTrial_82 rfl rfl ?_
      refine z_goto (q := 92) dX13_dealsTrial_84 rfl ?_
      exact hk

theorem u_X13_draw {l : Launch} {G : z_G} {a0 : Nat} {x1 : Int32} {h : z_H} {Q : z_Q} (hst : l.stackTraces = false)  (hf : z_L11 h a0 ∧ ¬ (Int32.toInt64 x1) = 0 ∧ Q (some (.int (Int64.toInt32 ((((((h.L a0 55) * 1103515245) + 12345) - (((h.L a0 55) * 1103515245) + 12345) / 2147483648 * 2147483648) / 65536) - (((((h.L a0 55) * 1103515245) + 12345) - (((h.L a0 55) * 1103515245) + 12345) / 2147483648 * 2147483648) / 65536) / (Int32.toInt64 x1) * (Int32.toInt64 x1))))) (h.sL a0 55 ((((h.L a0 55) * 1103515245) + 12345) - (((h.L a0 55) * 1103515245) + 12345) / 2147483648 * 2147483648))) : z_Ct l G m_X13_draw [.ref a0, .int x1] h Q := by
  refine z_Ct.of (ls := [some (.ref a0), some (.int x1)]) hst rfl (by show plainName yX13_draw.cls = true; decide +kernel) (z_le rfl) rfl ?_
  show z_V l G m_X13_draw (z_Fm G m_X13_draw Q) 0 0 h 0 [some (.ref a0), some (.int x1)] []
  refine z_aload_n (q := 1) (i := 0) (x := a0) dX13_draw_0 rfl rfl rfl ?_
  refine z_aload_n (q := 2) (i := 0) (x := a0) dX13_draw_1 rfl rfl rfl ?_
  obtain ⟨g_1, hf⟩ := hf
  refine z_get 11 55 (q := 5) (v := .long (h.L a0 55)) rfl (z_lt rfl) (z_L11_T g_1) q1813 dX13_draw_2 rfl rfl ?_
  refine z_ldc2 (q := 8) (v := 1103515245) dX13_draw_5 q2333 rfl ?_
  refine z_lmul (q := 9) dX13_draw_8 rfl ?_
  refine z_ldc2 (q := 12) (v := 12345) dX13_draw_9 q2334 rfl ?_
  refine z_ladd (q := 13) dX13_draw_12 rfl ?_
  refine z_ldc2 (q := 16) (v := 2147483648) dX13_draw_13 q2335 rfl ?_
  refine z_lrem (q := 17) dX13_draw_16 (by decide) rfl ?_
  refine z_putL 11 55 (q := 20) (x := ((((h.L a0 55) * 1103515245) + 12345) - (((h.L a0 55) * 1103515245) + 12345) / 2147483648 * 2147483648)) (v := .long ((((h.L a0 55) * 1103515245) + 12345) - (((h.L a0 55) * 1103515245) + 12345) / 2147483648 * 2147483648)) rfl (z_lt rfl) (z_L11_T g_1) q1813 rfl dX13_draw_17 rfl rfl rfl rfl (fun _ _ _ => rfl) ?_
  refine z_aload_n (q := 21) (i := 0) (x := a0) dX13_draw_20 rfl rfl rfl ?_
  refine z_get 11 55 (q := 24) (v := .long ((((h.L a0 55) * 1103515245) + 12345) - (((h.L a0 55) * 1103515245) + 12345) / 2147483648 * 2147483648)) rfl (z_lt rfl) (z_L11_T g_1) q1813 dX13_draw_21 rfl (congrArg Value.long z_rLs) ?_
  refine z_ldc2 (q := 27) (v := 65536) dX13_draw_24 q2336 rfl ?_
  refine z_ldiv (q := 28) dX13_draw_27 (by decide) rfl ?_
  refine z_iload_n (q := 29) (i := 1) (x := x1) dX13_draw_28 rfl rfl rfl ?_
  refine z_i2l (q := 30) dX13_draw_29 rfl ?_
  obtain ⟨g_2, hf⟩ := hf
  refine z_lrem (q := 31) dX13_draw_30 g_2 rfl ?_
  refine z_l2i (q := 32) dX13_draw_31 rfl ?_
  exact z_iret dX13_draw_32 rfl hf

theorem u_X13_drawn {l : Launch} {G : z_G} {a0 : Nat} {x1 : Int32} {h : z_H} {Q : z_Q} (hst : l.stackTraces = false)  (hf : z_L11 h a0 ∧ z_Ct l G m_X13_within [.int x1, .int 0, .int 9999] (h.sI a0 0 0) (z_Qi (fun x_2 h_3 => (x_2 = 0 → Q (some (.int 0)) h_3) ∧ (¬ x_2 = 0 → z_L11 h_3 a0 ∧ z_Ct l G m_X13_cards [.ref a0, .int 0] h_3 (z_Qi (fun x_5 h_6 => (x_5 = 0 → Q (some (.int 0)) h_6) ∧ (¬ x_5 = 0 → z_L11 h_6 a0 ∧ z_Ct l G m_X13_drawsPack [.ref a0] (h_6.sL a0 55 (Int32.toInt64 x1)) (z_Qv (fun h_8 => z_L11 h_8 a0 ∧ ∀ v_10 : Int32, v_10 = (((h_8.I a0 41) + 1) / 2) → vp_in 0 2 ∧ vp_in 1 2 ∧ z_V l G m_X13_drawn (z_Fm G m_X13_drawn Q) 0 0 ((h_8.sI (a0 + 12) (Int32.toNatClampNeg 0) v_10).sI (a0 + 12) (Int32.toNatClampNeg 1) ((h_8.I a0 41) - v_10)) 66 [some (.ref a0), none, some (.int v_10), some (.int 0)] []))))))))) : z_Ct l G m_X13_drawn [.ref a0, .int x1] h Q := by
  refine z_Ct.of (ls := [some (.ref a0), some (.int x1), none, none]) hst rfl (by show plainName yX13_drawn.cls = true; decide +kernel) (z_le rfl) rfl ?_
  show z_V l G m_X13_drawn (z_Fm G m_X13_drawn Q) 0 0 h 0 [some (.ref a0), some (.int x1), none, none] []
  refine z_aload_n (q := 1) (i := 0) (x := a0) dX13_drawn_0 rfl rfl rfl ?_
  refine z_iconst (q := 2) (v := 0) dX13_drawn_1 rfl rfl ?_
  obtain ⟨g_1, hf⟩ := hf
  refine z_putI 11 0 (q := 5) (x := 0) (v := .int 0) rfl (z_lt rfl) (z_L11_T g_1) q1758 rfl dX13_drawn_2 rfl rfl rfl rfl (fun _ _ _ => rfl) ?_
  refine z_iload_n (q := 6) (i := 1) (x := x1) dX13_drawn_5 rfl rfl rfl ?_
  refine z_iconst (q := 7) (v := 0) dX13_drawn_6 rfl rfl ?_
  refine z_sipush (q := 10) (v := 9999) dX13_drawn_7 (by decide) rfl ?_
  refine z_cSi m_X13_within [.int x1, .int 0, .int 9999] (q := 13) (rc2 := 0) (rs2 := 0) (st := []) dX13_drawn_10 rfl q2074 oS_X13_within rfl rfl ⟨z_le rfl, z_le rfl⟩ (z_le rfl) rfl  rfl hf (fun x_2 h_3 hf => ?_)
  refine z_if_eq (q := 16) (tgt := 24) dX13_drawn_13 rfl rfl (fun hc => ?_) (fun hc => ?_)
  · have hf := hf.1 hc
    refine z_iconst (q := 25) (v := 0) dX13_drawn_24 rfl rfl ?_
    exact z_zret dX13_drawn_25 rfl (z_nb01 z_b0) hf
  · have hf := hf.2 hc
    refine z_aload_n (q := 17) (i := 0) (x := a0) dX13_drawn_16 rfl rfl rfl ?_
    refine z_iconst (q := 18) (v := 0) dX13_drawn_17 rfl rfl ?_
    obtain ⟨g_4, hf⟩ := hf
    refine z_cVi m_X13_cards [.int 0] (a0) (q := 21) (rc2 := 0) (rs2 := 0) (st := []) dX13_drawn_18 rfl q1990 oV_X13_cards rfl rfl ⟨z_le rfl, z_le rfl⟩ (z_le rfl) (z_rcv_of 11 rfl (z_L11_T g_4) rfl) rfl  rfl hf (fun x_5 h_6 hf => ?_)
    refine z_if_ne (q := 24) (tgt := 26) dX13_drawn_21 rfl rfl (fun hc => ?_) (fun hc => ?_)
    · have hf := hf.2 hc
      refine z_aload_n (q := 27) (i := 0) (x := a0) dX13_drawn_26 rfl rfl rfl ?_
      refine z_iload_n (q := 28) (i := 1) (x := x1) dX13_drawn_27 rfl rfl rfl ?_
      refine z_i2l (q := 29) dX13_drawn_28 rfl ?_
      obtain ⟨g_7, hf⟩ := hf
      refine z_putL 11 55 (q := 32) (x := (Int32.toInt64 x1)) (v := .long (Int32.toInt64 x1)) rfl (z_lt rfl) (z_L11_T g_7) q1813 rfl dX13_drawn_29 rfl rfl rfl rfl (fun _ _ _ => rfl) ?_
      refine z_aload_n (q := 33) (i := 0) (x := a0) dX13_drawn_32 rfl rfl rfl ?_
      refine z_cVv m_X13_drawsPack [] (a0) (q := 36) (rc2 := 0) (rs2 := 0) (st := []) dX13_drawn_33 rfl q2325 oV_X13_drawsPack rfl rfl ⟨z_le rfl, z_le rfl⟩ (z_le rfl) (z_rcv_of 11 rfl (z_L11_T g_7) rfl) rfl  rfl hf (fun h_8 hf => ?_)
      refine z_aload_n (q := 37) (i := 0) (x := a0) dX13_drawn_36 rfl rfl rfl ?_
      obtain ⟨g_9, hf⟩ := hf
      refine z_get 11 41 (q := 40) (v := .int (h_8.I a0 41)) rfl (z_lt rfl) (z_L11_T g_9) q1799 dX13_drawn_37 rfl rfl ?_
      refine z_iconst (q := 41) (v := 1) dX13_drawn_40 rfl rfl ?_
      refine z_iadd (q := 42) dX13_drawn_41 rfl ?_
      refine z_iconst (q := 43) (v := 2) dX13_drawn_42 rfl rfl ?_
      refine z_idiv (q := 44) dX13_drawn_43 (by decide) rfl ?_
      refine z_nmI (fun v_10 hv_11 => ?_)
      have hf := hf v_10 hv_11
      refine z_istore_n (q := 45) (i := 2) (ls2 := [some (.ref a0), some (.int x1), some (.int v_10), none]) (x := v_10) dX13_drawn_44 rfl (z_lt rfl) rfl rfl ?_
      refine z_aload_n (q := 46) (i := 0) (x := a0) dX13_drawn_45 rfl rfl rfl ?_
      refine z_get 11 18 (q := 49) (v := .ref (a0 + 12)) rfl (z_lt rfl) (z_L11_T g_9) q1776 dX13_drawn_46 rfl (z_fvR (fun _ _ _ => rfl) (z_L11_P18 g_9)) ?_
      refine z_iconst (q := 50) (v := 0) dX13_drawn_49 rfl rfl ?_
      refine z_iload_n (q := 51) (i := 2) (x := v_10) dX13_drawn_50 rfl rfl rfl ?_
      obtain ⟨g_12, hf⟩ := hf
      refine z_iast (q := 52) (n := 2) (z_L11_A18 g_9) g_12 dX13_drawn_51 rfl ?_
      refine z_aload_n (q := 53) (i := 0) (x := a0) dX13_drawn_52 rfl rfl rfl ?_
      refine z_get 11 18 (q := 56) (v := .ref (a0 + 12)) rfl (z_lt rfl) (z_L11_T g_9) q1776 dX13_drawn_53 rfl (z_fvR (fun _ _ _ => rfl) (z_L11_P18 g_9)) ?_
      refine z_iconst (q := 57) (v := 1) dX13_drawn_56 rfl rfl ?_
      refine z_aload_n (q := 58) (i := 0) (x := a0) dX13_drawn_57 rfl rfl rfl ?_
      refine z_get 11 41 (q := 61) (v := .int (h_8.I a0 41)) rfl (z_lt rfl) (z_L11_T g_9) q1799 dX13_drawn_58 rfl (congrArg Value.int (z_rIa (by omega))) ?_
      refine z_iload_n (q := 62) (i := 2) (x := v_10) dX13_drawn_61 rfl rfl rfl ?_
      refine z_isub (q := 63) dX13_drawn_62 rfl ?_
      obtain ⟨g_13, hf⟩ := hf
      refine z_iast (q := 64) (n := 2) (z_L11_A18 g_9) g_13 dX13_drawn_63 rfl ?_
      refine z_iconst (q := 65) (v := 0) dX13_drawn_64 rfl rfl ?_
      refine z_istore_n (q := 66) (i := 3) (ls2 := [some (.ref a0), some (.int x1), some (.int v_10), some (.int 0)]) (x := 0) dX13_drawn_65 rfl (z_lt rfl) rfl rfl ?_
      refine z_prune [true, false, true, true] (ls2 := [some (.ref a0), none, some (.int v_10), some (.int 0)]) rfl ?_
      exact hf
    · have hf := hf.1 hc
      refine z_iconst (q := 25) (v := 0) dX13_drawn_24 rfl rfl ?_
      exact z_zret dX13_drawn_25 rfl (z_nb01 z_b0) hf

theorem b_X13_drawn_66 {l : Launch} {G : z_G} {a0 : Nat} {x2 : Int32} {x3 : Int32} {h : z_H} {Q : z_Q}  (hf : z_L11 h a0 ∧ ((h.I a0 41) ≤ x3 → z_Ct l G m_X13_dealsRead [.ref a0] h (z_Qv (fun h_2 => Q (some (.int 1)) h_2))) ∧ (¬ (h.I a0 41) ≤ x3 → vp_in x3 24 ∧ vp_in (if x2 ≤ x3 then ((24 + x3) - x2) else x3) 48 ∧ z_V l G m_X13_drawn (z_Fm G m_X13_drawn Q) 0 0 (h.sI (a0 + 11) (Int32.toNatClampNeg (if x2 ≤ x3 then ((24 + x3) - x2) else x3)) (h.I (a0 + 26) (Int32.toNatClampNeg x3))) 66 [some (.ref a0), none, some (.int x2), some (.int (x3 + 1))] [])) : z_V l G m_X13_drawn (z_Fm G m_X13_drawn Q) 0 0 h 66 [some (.ref a0), none, some (.int x2), some (.int x3)] [] := by
  refine z_iload_n (q := 67) (i := 3) (x := x3) dX13_drawn_66 rfl rfl rfl ?_
  refine z_aload_n (q := 68) (i := 0) (x := a0) dX13_drawn_67 rfl rfl rfl ?_
  obtain ⟨g_1, hf⟩ := hf
  refine z_get 11 41 (q := 71) (v := .int (h.I a0 41)) rfl (z_lt rfl) (z_L11_T g_1) q1799 dX13_drawn_68 rfl rfl ?_
  refine z_icmp_ge (q := 74) (tgt := 106) dX13_drawn_71 rfl rfl (fun hc => ?_) (fun hc => ?_)
  · have hf := hf.1 hc
    refine z_aload_n (q := 107) (i := 0) (x := a0) dX13_drawn_106 rfl rfl rfl ?_
    refine z_cVv m_X13_dealsRead [] (a0) (q := 110) (rc2 := 0) (rs2 := 0) (st := []) dX13_drawn_107 rfl q2050 oV_X13_dealsRead rfl rfl ⟨z_le rfl, z_le rfl⟩ (z_le rfl) (z_rcv_of 11 rfl (z_L11_T g_1) rfl) rfl  rfl hf (fun h_2 hf => ?_)
    refine z_iconst (q := 111) (v := 1) dX13_drawn_110 rfl rfl ?_
    exact z_zret dX13_drawn_111 rfl (z_nb01 z_b1) hf
  · have hf := hf.2 hc
    refine z_aload_n (q := 75) (i := 0) (x := a0) dX13_drawn_74 rfl rfl rfl ?_
    refine z_get 11 17 (q := 78) (v := .ref (a0 + 11)) rfl (z_lt rfl) (z_L11_T g_1) q1775 dX13_drawn_75 rfl (z_fvR (fun _ _ _ => rfl) (z_L11_P17 g_1)) ?_
    refine z_iload_n (q := 79) (i := 3) (x := x3) dX13_drawn_78 rfl rfl rfl ?_
    refine z_iload_n (q := 80) (i := 2) (x := x2) dX13_drawn_79 rfl rfl rfl ?_
    have hk : z_V l G m_X13_drawn (z_Fm G m_X13_drawn Q) 0 0 h 93 [some (.ref a0), none, some (.int x2), some (.int x3)] [.int (if x2 ≤ x3 then ((24 + x3) - x2) else x3), .ref (a0 + 11)] := by
      refine z_aload_n (q := 94) (i := 0) (x := a0) dX13_drawn_93 rfl rfl rfl ?_
      refine z_get 11 40 (q := 97) (v := .ref (a0 + 26)) rfl (z_lt rfl) (z_L11_T g_1) q1798 dX13_drawn_94 rfl (z_fvR (fun _ _ _ => rfl) (z_L11_P40 g_1)) ?_
      refine z_iload_n (q := 98) (i := 3) (x := x3) dX13_drawn_97 rfl rfl rfl ?_
      obtain ⟨g_3, hf⟩ := hf
      refine z_iald (q := 99) (n := 24) (z_L11_A40 g_1) g_3 dX13_drawn_98 rfl ?_
      obtain ⟨g_4, hf⟩ := hf
      refine z_iast (q := 100) (n := 48) (z_L11_A17 g_1) g_4 dX13_drawn_99 rfl ?_
      refine z_iinc (q := 103) (i := 3) (x := x3) (v := (x3 + 1)) (ls2 := [some (.ref a0), none, some (.int x2), some (.int (x3 + 1))]) dX13_drawn_100 rfl rfl (z_lt rfl) rfl rfl ?_
      refine z_goto (q := 66) dX13_drawn_103 rfl ?_
      exact hf
    refine z_icmp_ge (q := 83) (tgt := 87) dX13_drawn_80 rfl rfl (fun hc => ?_) (fun hc => ?_)
    · have hk := (z_ite hk).1 hc
      refine z_bipush (q := 89) (v := 24) dX13_drawn_87 (by decide) rfl ?_
      refine z_iload_n (q := 90) (i := 3) (x := x3) dX13_drawn_89 rfl rfl rfl ?_
      refine z_iadd (q := 91) dX13_drawn_90 rfl ?_
      refine z_iload_n (q := 92) (i := 2) (x := x2) dX13_drawn_91 rfl rfl rfl ?_
      refine z_isub (q := 93) dX13_drawn_92 rfl ?_
      exact hk
    · have hk := (z_ite hk).2 hc
      refine z_iload_n (q := 84) (i := 3) (x := x3) dX13_drawn_83 rfl rfl rfl ?_
      refine z_goto (q := 93) dX13_drawn_84 rfl ?_
      exact hk

theorem u_X13_drawsPack {l : Launch} {G : z_G} {a0 : Nat} {h : z_H} {Q : z_Q} (hst : l.stackTraces = false)  (hf : z_L11 h a0 ∧ z_Ct l G m_X13_laysPack [.ref a0] h (z_Qv (fun h_2 => z_L11 h_2 a0 ∧ ∀ v_4 : Int32, v_4 = ((h_2.I a0 41) - 1) → z_V l G m_X13_drawsPack (z_Fm G m_X13_drawsPack Q) 0 0 h_2 11 [some (.ref a0), some (.int v_4)] []))) : z_Ct l G m_X13_drawsPack [.ref a0] h Q := by
  refine z_Ct.of (ls := [some (.ref a0), none]) hst rfl (by show plainName yX13_drawsPack.cls = true; decide +kernel) (z_le rfl) rfl ?_
  show z_V l G m_X13_drawsPack (z_Fm G m_X13_drawsPack Q) 0 0 h 0 [some (.ref a0), none] []
  refine z_aload_n (q := 1) (i := 0) (x := a0) dX13_drawsPack_0 rfl rfl rfl ?_
  obtain ⟨g_1, hf⟩ := hf
  refine z_cVv m_X13_laysPack [] (a0) (q := 4) (rc2 := 0) (rs2 := 0) (st := []) dX13_drawsPack_1 rfl q2194 oV_X13_laysPack rfl rfl ⟨z_le rfl, z_le rfl⟩ (z_le rfl) (z_rcv_of 11 rfl (z_L11_T g_1) rfl) rfl  rfl hf (fun h_2 hf => ?_)
  refine z_aload_n (q := 5) (i := 0) (x := a0) dX13_drawsPack_4 rfl rfl rfl ?_
  obtain ⟨g_3, hf⟩ := hf
  refine z_get 11 41 (q := 8) (v := .int (h_2.I a0 41)) rfl (z_lt rfl) (z_L11_T g_3) q1799 dX13_drawsPack_5 rfl rfl ?_
  refine z_iconst (q := 9) (v := 1) dX13_drawsPack_8 rfl rfl ?_
  refine z_isub (q := 10) dX13_drawsPack_9 rfl ?_
  refine z_nmI (fun v_4 hv_5 => ?_)
  have hf := hf v_4 hv_5
  refine z_istore_n (q := 11) (i := 1) (ls2 := [some (.ref a0), some (.int v_4)]) (x := v_4) dX13_drawsPack_10 rfl (z_lt rfl) rfl rfl ?_
  exact hf

theorem b_X13_drawsPack_11 {l : Launch} {G : z_G} {a0 : Nat} {x1 : Int32} {h : z_H} {Q : z_Q}  (hf : (x1 ≤ 0 → Q none h) ∧ (¬ x1 ≤ 0 → z_L11 h a0 ∧ z_Ct l G m_X13_draw [.ref a0, .int (x1 + 1)] h (z_Qi (fun x_2 h_3 => z_Ct l G m_X13_swaps [.ref (a0 + 26), .int x1, .int x_2] h_3 (z_Qv (fun h_4 => z_V l G m_X13_drawsPack (z_Fm G m_X13_drawsPack Q) 0 0 h_4 11 [some (.ref a0), some (.int (x1 + (-1)))] [])))))) : z_V l G m_X13_drawsPack (z_Fm G m_X13_drawsPack Q) 0 0 h 11 [some (.ref a0), some (.int x1)] [] := by
  refine z_iload_n (q := 12) (i := 1) (x := x1) dX13_drawsPack_11 rfl rfl rfl ?_
  refine z_if_le (q := 15) (tgt := 36) dX13_drawsPack_12 rfl rfl (fun hc => ?_) (fun hc => ?_)
  · have hf := hf.1 hc
    exact z_vret dX13_drawsPack_36 rfl hf
  · have hf := hf.2 hc
    refine z_aload_n (q := 16) (i := 0) (x := a0) dX13_drawsPack_15 rfl rfl rfl ?_
    obtain ⟨g_1, hf⟩ := hf
    refine z_get 11 40 (q := 19) (v := .ref (a0 + 26)) rfl (z_lt rfl) (z_L11_T g_1) q1798 dX13_drawsPack_16 rfl (z_fvR (fun _ _ _ => rfl) (z_L11_P40 g_1)) ?_
    refine z_iload_n (q := 20) (i := 1) (x := x1) dX13_drawsPack_19 rfl rfl rfl ?_
    refine z_aload_n (q := 21) (i := 0) (x := a0) dX13_drawsPack_20 rfl rfl rfl ?_
    refine z_iload_n (q := 22) (i := 1) (x := x1) dX13_drawsPack_21 rfl rfl rfl ?_
    refine z_iconst (q := 23) (v := 1) dX13_drawsPack_22 rfl rfl ?_
    refine z_iadd (q := 24) dX13_drawsPack_23 rfl ?_
    refine z_cVi m_X13_draw [.int (x1 + 1)] (a0) (q := 27) (rc2 := 0) (rs2 := 0) (st := [.int x1, .ref (a0 + 26)]) dX13_drawsPack_24 rfl q2329 oV_X13_draw rfl rfl ⟨z_le rfl, z_le rfl⟩ (z_le rfl) (z_rcv_of 11 rfl (z_L11_T g_1) rfl) rfl  rfl hf (fun x_2 h_3 hf => ?_)
    refine z_cSv m_X13_swaps [.ref (a0 + 26), .int x1, .int x_2] (q := 30) (rc2 := 0) (rs2 := 0) (st := []) dX13_drawsPack_27 rfl q2211 oS_X13_swaps rfl rfl ⟨z_le rfl, z_le rfl⟩ (z_le rfl) rfl  rfl hf (fun h_4 hf => ?_)
    refine z_iinc (q := 33) (i := 1) (x := x1) (v := (x1 + (-1))) (ls2 := [some (.ref a0), some (.int (x1 + (-1)))]) dX13_drawsPack_30 rfl rfl (z_lt rfl) rfl rfl ?_
    refine z_goto (q := 11) dX13_drawsPack_33 rfl ?_
    exact hf

theorem u_X13_emit {l : Launch} {G : z_G} {a0 : Nat} {x1 : Int32} {x2 : Int32} {h : z_H} {Q : z_Q} (hst : l.stackTraces = false)  (hf : z_L11 h a0 ∧ vp_in (1100 + (h.I a0 13)) 2200 ∧ vp_in (1100 + (h.I a0 13)) 2200 ∧ Q none (((h.sI (a0 + 7) (Int32.toNatClampNeg (1100 + (h.I a0 13))) x1).sI (a0 + 8) (Int32.toNatClampNeg (1100 + (h.I a0 13))) x2).sI a0 13 ((h.I a0 13) + 1))) : z_Ct l G m_X13_emit [.ref a0, .int x1, .int x2] h Q := by
  refine z_Ct.of (ls := [some (.ref a0), some (.int x1), some (.int x2)]) hst rfl (by show plainName yX13_emit.cls = true; decide +kernel) (z_le rfl) rfl ?_
  show z_V l G m_X13_emit (z_Fm G m_X13_emit Q) 0 0 h 0 [some (.ref a0), some (.int x1), some (.int x2)] []
  refine z_aload_n (q := 1) (i := 0) (x := a0) dX13_emit_0 rfl rfl rfl ?_
  obtain ⟨g_1, hf⟩ := hf
  refine z_get 11 11 (q := 4) (v := .ref (a0 + 7)) rfl (z_lt rfl) (z_L11_T g_1) q1769 dX13_emit_1 rfl (z_fvR (fun _ _ _ => rfl) (z_L11_P11 g_1)) ?_
  refine z_sipush (q := 7) (v := 1100) dX13_emit_4 (by decide) rfl ?_
  refine z_aload_n (q := 8) (i := 0) (x := a0) dX13_emit_7 rfl rfl rfl ?_
  refine z_get 11 13 (q := 11) (v := .int (h.I a0 13)) rfl (z_lt rfl) (z_L11_T g_1) q1771 dX13_emit_8 rfl rfl ?_
  refine z_iadd (q := 12) dX13_emit_11 rfl ?_
  refine z_iload_n (q := 13) (i := 1) (x := x1) dX13_emit_12 rfl rfl rfl ?_
  obtain ⟨g_2, hf⟩ := hf
  refine z_iast (q := 14) (n := 2200) (z_L11_A11 g_1) g_2 dX13_emit_13 rfl ?_
  refine z_aload_n (q := 15) (i := 0) (x := a0) dX13_emit_14 rfl rfl rfl ?_
  refine z_get 11 12 (q := 18) (v := .ref (a0 + 8)) rfl (z_lt rfl) (z_L11_T g_1) q1770 dX13_emit_15 rfl (z_fvR (fun _ _ _ => rfl) (z_L11_P12 g_1)) ?_
  refine z_sipush (q := 21) (v := 1100) dX13_emit_18 (by decide) rfl ?_
  refine z_aload_n (q := 22) (i := 0) (x := a0) dX13_emit_21 rfl rfl rfl ?_
  refine z_get 11 13 (q := 25) (v := .int (h.I a0 13)) rfl (z_lt rfl) (z_L11_T g_1) q1771 dX13_emit_22 rfl (congrArg Value.int (z_rIa (by omega))) ?_
  refine z_iadd (q := 26) dX13_emit_25 rfl ?_
  refine z_iload_n (q := 27) (i := 2) (x := x2) dX13_emit_26 rfl rfl rfl ?_
  obtain ⟨g_3, hf⟩ := hf
  refine z_iast (q := 28) (n := 2200) (z_L11_A12 g_1) g_3 dX13_emit_27 rfl ?_
  refine z_aload_n (q := 29) (i := 0) (x := a0) dX13_emit_28 rfl rfl rfl ?_
  refine z_dup (q := 30) dX13_emit_29 rfl rfl ?_
  refine z_get 11 13 (q := 33) (v := .int (h.I a0 13)) rfl (z_lt rfl) (z_L11_T g_1) q1771 dX13_emit_30 rfl (congrArg Value.int (Eq.trans (z_rIa (by omega)) (z_rIa (by omega)))) ?_
  refine z_iconst (q := 34) (v := 1) dX13_emit_33 rfl rfl ?_
  refine z_iadd (q := 35) dX13_emit_34 rfl ?_
  refine z_putI 11 13 (q := 38) (x := ((h.I a0 13) + 1)) (v := .int ((h.I a0 13) + 1)) rfl (z_lt rfl) (z_L11_T g_1) q1771 rfl dX13_emit_35 rfl rfl rfl rfl (fun _ _ _ => rfl) ?_
  exact z_vret dX13_emit_38 rfl hf

theorem u_X13_ends {l : Launch} {G : z_G} {a0 : Nat} {x1 : Int32} {h : z_H} {Q : z_Q} (hst : l.stackTraces = false)  (hf : z_L11 h a0 ∧ z_Ct l G m_X13_within [.int x1, .int 0, .int 3] (h.sI a0 0 0) (z_Qi (fun x_2 h_3 => (x_2 = 0 → Q (some (.int (-1))) h_3) ∧ (¬ x_2 = 0 → z_L11 h_3 a0 ∧ z_Ct l G m_X13_runsNow [.ref a0] h_3 (z_Qv (fun h_5 => z_L11 h_5 a0 ∧ Q (some (.int (if x1 = 0 then (h_5.I a0 36) else (if x1 = 1 then (h_5.I a0 37) else (if x1 = 2 then (h_5.I a0 38) else (h_5.I a0 39)))))) h_5)))))) : z_Ct l G m_X13_ends [.ref a0, .int x1] h Q := by
  refine z_Ct.of (ls := [some (.ref a0), some (.int x1)]) hst rfl (by show plainName yX13_ends.cls = true; decide +kernel) (z_le rfl) rfl ?_
  show z_V l G m_X13_ends (z_Fm G m_X13_ends Q) 0 0 h 0 [some (.ref a0), some (.int x1)] []
  refine z_aload_n (q := 1) (i := 0) (x := a0) dX13_ends_0 rfl rfl rfl ?_
  refine z_iconst (q := 2) (v := 0) dX13_ends_1 rfl rfl ?_
  obtain ⟨g_1, hf⟩ := hf
  refine z_putI 11 0 (q := 5) (x := 0) (v := .int 0) rfl (z_lt rfl) (z_L11_T g_1) q1758 rfl dX13_ends_2 rfl rfl rfl rfl (fun _ _ _ => rfl) ?_
  refine z_iload_n (q := 6) (i := 1) (x := x1) dX13_ends_5 rfl rfl rfl ?_
  refine z_iconst (q := 7) (v := 0) dX13_ends_6 rfl rfl ?_
  refine z_iconst (q := 8) (v := 3) dX13_ends_7 rfl rfl ?_
  refine z_cSi m_X13_within [.int x1, .int 0, .int 3] (q := 11) (rc2 := 0) (rs2 := 0) (st := []) dX13_ends_8 rfl q2074 oS_X13_within rfl rfl ⟨z_le rfl, z_le rfl⟩ (z_le rfl) rfl  rfl hf (fun x_2 h_3 hf => ?_)
  refine z_if_ne (q := 14) (tgt := 16) dX13_ends_11 rfl rfl (fun hc => ?_) (fun hc => ?_)
  · have hf := hf.2 hc
    refine z_aload_n (q := 17) (i := 0) (x := a0) dX13_ends_16 rfl rfl rfl ?_
    obtain ⟨g_4, hf⟩ := hf
    refine z_cVv m_X13_runsNow [] (a0) (q := 20) (rc2 := 0) (rs2 := 0) (st := []) dX13_ends_17 rfl q2164 oV_X13_runsNow rfl rfl ⟨z_le rfl, z_le rfl⟩ (z_le rfl) (z_rcv_of 11 rfl (z_L11_T g_4) rfl) rfl  rfl hf (fun h_5 hf => ?_)
    refine z_iload_n (q := 21) (i := 1) (x := x1) dX13_ends_20 rfl rfl rfl ?_
    obtain ⟨g_6, hf⟩ := hf
    have hk : z_V l G m_X13_ends (z_Fm G m_X13_ends Q) 0 0 h_5 59 [some (.ref a0), some (.int x1)] [.int (if x1 = 0 then (h_5.I a0 36) else (if x1 = 1 then (h_5.I a0 37) else (if x1 = 2 then (h_5.I a0 38) else (h_5.I a0 39))))] := by
      exact z_iret dX13_ends_59 rfl hf
    refine z_if_ne (q := 24) (tgt := 31) dX13_ends_21 rfl rfl (fun hc => ?_) (fun hc => ?_)
    · have hk := (z_ite hk).2 hc
      refine z_iload_n (q := 32) (i := 1) (x := x1) dX13_ends_31 rfl rfl rfl ?_
      refine z_iconst (q := 33) (v := 1) dX13_ends_32 rfl rfl ?_
      refine z_icmp_ne (q := 36) (tgt := 43) dX13_ends_33 rfl rfl (fun hc => ?_) (fun hc => ?_)
      · have hk := (z_ite hk).2 hc
        refine z_iload_n (q := 44) (i := 1) (x := x1) dX13_ends_43 rfl rfl rfl ?_
        refine z_iconst (q := 45) (v := 2) dX13_ends_44 rfl rfl ?_
        refine z_icmp_ne (q := 48) (tgt := 55) dX13_ends_45 rfl rfl (fun hc => ?_) (fun hc => ?_)
        · have hk := (z_ite hk).2 hc
          refine z_aload_n (q := 56) (i := 0) (x := a0) dX13_ends_55 rfl rfl rfl ?_
          refine z_get 11 39 (q := 59) (v := .int (h_5.I a0 39)) rfl (z_lt rfl) (z_L11_T g_6) q1797 dX13_ends_56 rfl rfl ?_
          exact hk
        · have hk := (z_ite hk).1 hc
          refine z_aload_n (q := 49) (i := 0) (x := a0) dX13_ends_48 rfl rfl rfl ?_
          refine z_get 11 38 (q := 52) (v := .int (h_5.I a0 38)) rfl (z_lt rfl) (z_L11_T g_6) q1796 dX13_ends_49 rfl rfl ?_
          refine z_goto (q := 59) dX13_ends_52 rfl ?_
          exact hk
      · have hk := (z_ite hk).1 hc
        refine z_aload_n (q := 37) (i := 0) (x := a0) dX13_ends_36 rfl rfl rfl ?_
        refine z_get 11 37 (q := 40) (v := .int (h_5.I a0 37)) rfl (z_lt rfl) (z_L11_T g_6) q1795 dX13_ends_37 rfl rfl ?_
        refine z_goto (q := 59) dX13_ends_40 rfl ?_
        exact hk
    · have hk := (z_ite hk).1 hc
      refine z_aload_n (q := 25) (i := 0) (x := a0) dX13_ends_24 rfl rfl rfl ?_
      refine z_get 11 36 (q := 28) (v := .int (h_5.I a0 36)) rfl (z_lt rfl) (z_L11_T g_6) q1794 dX13_ends_25 rfl rfl ?_
      refine z_goto (q := 59) dX13_ends_28 rfl ?_
      exact hk
  · have hf := hf.1 hc
    refine z_iconst (q := 15) (v := (-1)) dX13_ends_14 rfl rfl ?_
    exact z_iret dX13_ends_15 rfl hf

