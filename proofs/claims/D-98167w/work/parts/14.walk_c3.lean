set_option maxRecDepth 100000
set_option maxHeartbeats 4000000
theorem u_X13_runs {l : Launch} {G : z_G} {a0 : Nat} {x1 : Int32} {x2 : Int32} {h : z_H} {Q : z_Q} (hst : l.stackTraces = false)  (hf : z_V l G m_X13_runs (z_Fm G m_X13_runs Q) 0 0 h 2 [some (.ref a0), some (.int x1), some (.int x2), some (.int 0), none, none, none, none] []) : z_Ct l G m_X13_runs [.ref a0, .int x1, .int x2] h Q := by
  refine z_Ct.of (ls := [some (.ref a0), some (.int x1), some (.int x2), none, none, none, none, none]) hst rfl (by show plainName yX13_runs.cls = true; decide +kernel) (z_le rfl) rfl ?_
  show z_V l G m_X13_runs (z_Fm G m_X13_runs Q) 0 0 h 0 [some (.ref a0), some (.int x1), some (.int x2), none, none, none, none, none] []
  refine z_iconst (q := 1) (v := 0) dX13_runs_0 rfl rfl ?_
  refine z_istore_n (q := 2) (i := 3) (ls2 := [some (.ref a0), some (.int x1), some (.int x2), some (.int 0), none, none, none, none]) (x := 0) dX13_runs_1 rfl (z_lt rfl) rfl rfl ?_
  exact hf

theorem b_X13_runs_2 {l : Launch} {G : z_G} {a0 : Nat} {x1 : Int32} {x2 : Int32} {x3 : Int32} {h : z_H} {Q : z_Q}  (hf : (1024 ≤ x3 → z_L11 h a0 ∧ vp_in (x1 + 7) 16560 ∧ ∀ v_3 : Int32, v_3 = (h.I (a0 + 16) (Int32.toNatClampNeg (x1 + 7))) → z_V l G m_X13_runs (z_Fm G m_X13_runs Q) 0 0 ((h.sI a0 35 0).sI a0 39 0) 45 [some (.ref a0), some (.int x1), some (.int x2), some (.int v_3), some (.int 0), none, none, none] []) ∧ (¬ 1024 ≤ x3 → z_L11 h a0 ∧ vp_in x3 1024 ∧ z_V l G m_X13_runs (z_Fm G m_X13_runs Q) 0 0 (h.sI (a0 + 25) (Int32.toNatClampNeg x3) (-1)) 2 [some (.ref a0), some (.int x1), some (.int x2), some (.int (x3 + 1)), none, none, none, none] [])) : z_V l G m_X13_runs (z_Fm G m_X13_runs Q) 0 0 h 2 [some (.ref a0), some (.int x1), some (.int x2), some (.int x3), none, none, none, none] [] := by
  refine z_iload_n (q := 3) (i := 3) (x := x3) dX13_runs_2 rfl rfl rfl ?_
  refine z_sipush (q := 6) (v := 1024) dX13_runs_3 (by decide) rfl ?_
  refine z_icmp_ge (q := 9) (tgt := 22) dX13_runs_6 rfl rfl (fun hc => ?_) (fun hc => ?_)
  · have hf := hf.1 hc
    refine z_aload_n (q := 23) (i := 0) (x := a0) dX13_runs_22 rfl rfl rfl ?_
    refine z_iconst (q := 24) (v := 0) dX13_runs_23 rfl rfl ?_
    obtain ⟨g_1, hf⟩ := hf
    refine z_putI 11 35 (q := 27) (x := 0) (v := .int 0) rfl (z_lt rfl) (z_L11_T g_1) q1793 rfl dX13_runs_24 rfl rfl rfl rfl (fun _ _ _ => rfl) ?_
    refine z_aload_n (q := 28) (i := 0) (x := a0) dX13_runs_27 rfl rfl rfl ?_
    refine z_get 11 22 (q := 31) (v := .ref (a0 + 16)) rfl (z_lt rfl) (z_L11_T g_1) q1780 dX13_runs_28 rfl (z_fvR (fun _ _ _ => rfl) (z_L11_P22 g_1)) ?_
    refine z_iload_n (q := 32) (i := 1) (x := x1) dX13_runs_31 rfl rfl rfl ?_
    refine z_bipush (q := 34) (v := 7) dX13_runs_32 (by decide) rfl ?_
    refine z_iadd (q := 35) dX13_runs_34 rfl ?_
    obtain ⟨g_2, hf⟩ := hf
    refine z_iald (q := 36) (n := 16560) (z_L11_A22 g_1) g_2 dX13_runs_35 rfl ?_
    refine z_topI (z_rIa (by omega)) ?_
    refine z_nmI (fun v_3 hv_4 => ?_)
    have hf := hf v_3 hv_4
    refine z_istore_n (q := 37) (i := 3) (ls2 := [some (.ref a0), some (.int x1), some (.int x2), some (.int v_3), none, none, none, none]) (x := v_3) dX13_runs_36 rfl (z_lt rfl) rfl rfl ?_
    refine z_aload_n (q := 38) (i := 0) (x := a0) dX13_runs_37 rfl rfl rfl ?_
    refine z_iconst (q := 39) (v := 0) dX13_runs_38 rfl rfl ?_
    refine z_putI 11 39 (q := 42) (x := 0) (v := .int 0) rfl (z_lt rfl) (z_L11_T g_1) q1797 rfl dX13_runs_39 rfl rfl rfl rfl (fun _ _ _ => rfl) ?_
    refine z_iconst (q := 43) (v := 0) dX13_runs_42 rfl rfl ?_
    refine z_istore (q := 45) (i := 4) (ls2 := [some (.ref a0), some (.int x1), some (.int x2), some (.int v_3), some (.int 0), none, none, none]) (x := 0) dX13_runs_43 (z_lt rfl) rfl rfl ?_
    exact hf
  · have hf := hf.2 hc
    refine z_aload_n (q := 10) (i := 0) (x := a0) dX13_runs_9 rfl rfl rfl ?_
    obtain ⟨g_5, hf⟩ := hf
    refine z_get 11 34 (q := 13) (v := .ref (a0 + 25)) rfl (z_lt rfl) (z_L11_T g_5) q1792 dX13_runs_10 rfl (z_fvR (fun _ _ _ => rfl) (z_L11_P34 g_5)) ?_
    refine z_iload_n (q := 14) (i := 3) (x := x3) dX13_runs_13 rfl rfl rfl ?_
    refine z_iconst (q := 15) (v := (-1)) dX13_runs_14 rfl rfl ?_
    obtain ⟨g_6, hf⟩ := hf
    refine z_iast (q := 16) (n := 1024) (z_L11_A34 g_5) g_6 dX13_runs_15 rfl ?_
    refine z_iinc (q := 19) (i := 3) (x := x3) (v := (x3 + 1)) (ls2 := [some (.ref a0), some (.int x1), some (.int x2), some (.int (x3 + 1)), none, none, none, none]) dX13_runs_16 rfl rfl (z_lt rfl) rfl rfl ?_
    refine z_goto (q := 2) dX13_runs_19 rfl ?_
    exact hf

theorem b_X13_runs_45 {l : Launch} {G : z_G} {a0 : Nat} {x1 : Int32} {x2 : Int32} {x3 : Int32} {x4 : Int32} {h : z_H} {Q : z_Q}  (hf : z_L11 h a0 ∧ vp_in (x1 + 7) 16560 ∧ ∀ v_3 : Int32, v_3 = ((h.I (a0 + 16) (Int32.toNatClampNeg (x1 + 7))) - x3) → z_Ct l G m_X13_isWon [.ref a0, .int x1] ((h.sI a0 37 x4).sI a0 38 v_3) (z_Qi (fun x_5 h_6 => (x_5 = 0 → z_L11 h_6 a0 ∧ ((0 ≤ x2 → True) ∧ (¬ 0 ≤ x2 → vp_in (x1 + 2) 16560 ∧ (((h_6.I (a0 + 16) (Int32.toNatClampNeg (x1 + 2))) = 0 → vp_in (x1 + 11) 16560 ∧ True) ∧ (¬ (h_6.I (a0 + 16) (Int32.toNatClampNeg (x1 + 2))) = 0 → True)))) ∧ ∀ v_10 : Int32, v_10 = (if 0 ≤ x2 then 0 else (if (h_6.I (a0 + 16) (Int32.toNatClampNeg (x1 + 2))) = 0 then (if (h_6.I (a0 + 16) (Int32.toNatClampNeg (x1 + 11))) = 0 then 1 else 0) else 0)) → (v_10 = 0 → z_V l G m_X13_runs (z_Fm G m_X13_runs Q) 0 0 h_6 144 [some (.ref a0), some (.int x1), some (.int x2), some (.int x3), some (.int x4), some (.int v_3), none, none] [.int (-1)]) ∧ (¬ v_10 = 0 → z_Ct l G m_X13_findKey [.ref a0, .int x1, .int x4, .int v_3] h_6 (z_Qi (fun x_12 h_13 => z_V l G m_X13_runs (z_Fm G m_X13_runs Q) 0 0 h_13 144 [some (.ref a0), some (.int x1), some (.int x2), some (.int x3), some (.int x4), some (.int v_3), none, none] [.int x_12])))) ∧ (¬ x_5 = 0 → z_L11 h_6 a0 ∧ vp_in (x1 + 8) 16560 ∧ Q none (h_6.sI a0 36 (h_6.I (a0 + 16) (Int32.toNatClampNeg (x1 + 8)))))))) : z_V l G m_X13_runs (z_Fm G m_X13_runs Q) 0 0 h 45 [some (.ref a0), some (.int x1), some (.int x2), some (.int x3), some (.int x4), none, none, none] [] := by
  refine z_aload_n (q := 46) (i := 0) (x := a0) dX13_runs_45 rfl rfl rfl ?_
  obtain ⟨g_1, hf⟩ := hf
  refine z_get 11 22 (q := 49) (v := .ref (a0 + 16)) rfl (z_lt rfl) (z_L11_T g_1) q1780 dX13_runs_46 rfl (z_fvR (fun _ _ _ => rfl) (z_L11_P22 g_1)) ?_
  refine z_iload_n (q := 50) (i := 1) (x := x1) dX13_runs_49 rfl rfl rfl ?_
  refine z_bipush (q := 52) (v := 7) dX13_runs_50 (by decide) rfl ?_
  refine z_iadd (q := 53) dX13_runs_52 rfl ?_
  obtain ⟨g_2, hf⟩ := hf
  refine z_iald (q := 54) (n := 16560) (z_L11_A22 g_1) g_2 dX13_runs_53 rfl ?_
  refine z_iload_n (q := 55) (i := 3) (x := x3) dX13_runs_54 rfl rfl rfl ?_
  refine z_isub (q := 56) dX13_runs_55 rfl ?_
  refine z_nmI (fun v_3 hv_4 => ?_)
  have hf := hf v_3 hv_4
  refine z_istore (q := 58) (i := 5) (ls2 := [some (.ref a0), some (.int x1), some (.int x2), some (.int x3), some (.int x4), some (.int v_3), none, none]) (x := v_3) dX13_runs_56 (z_lt rfl) rfl rfl ?_
  refine z_aload_n (q := 59) (i := 0) (x := a0) dX13_runs_58 rfl rfl rfl ?_
  refine z_iload (q := 61) (i := 4) (x := x4) dX13_runs_59 rfl rfl ?_
  refine z_putI 11 37 (q := 64) (x := x4) (v := .int x4) rfl (z_lt rfl) (z_L11_T g_1) q1795 rfl dX13_runs_61 rfl rfl rfl rfl (fun _ _ _ => rfl) ?_
  refine z_aload_n (q := 65) (i := 0) (x := a0) dX13_runs_64 rfl rfl rfl ?_
  refine z_iload (q := 67) (i := 5) (x := v_3) dX13_runs_65 rfl rfl ?_
  refine z_putI 11 38 (q := 70) (x := v_3) (v := .int v_3) rfl (z_lt rfl) (z_L11_T g_1) q1796 rfl dX13_runs_67 rfl rfl rfl rfl (fun _ _ _ => rfl) ?_
  refine z_aload_n (q := 71) (i := 0) (x := a0) dX13_runs_70 rfl rfl rfl ?_
  refine z_iload_n (q := 72) (i := 1) (x := x1) dX13_runs_71 rfl rfl rfl ?_
  refine z_cVi m_X13_isWon [.int x1] (a0) (q := 75) (rc2 := 0) (rs2 := 0) (st := []) dX13_runs_72 rfl q2108 oV_X13_isWon rfl rfl ⟨z_le rfl, z_le rfl⟩ (z_le rfl) (z_rcv_of 11 rfl (z_L11_T g_1) rfl) rfl  rfl hf (fun x_5 h_6 hf => ?_)
  refine z_if_eq (q := 78) (tgt := 92) dX13_runs_75 rfl rfl (fun hc => ?_) (fun hc => ?_)
  · have hf := hf.1 hc
    refine z_iload_n (q := 93) (i := 2) (x := x2) dX13_runs_92 rfl rfl rfl ?_
    obtain ⟨g_7, hf⟩ := hf
    obtain ⟨hsc, hf⟩ := hf
    have hk : z_V l G m_X13_runs (z_Fm G m_X13_runs Q) 0 0 h_6 124 [some (.ref a0), some (.int x1), some (.int x2), some (.int x3), some (.int x4), some (.int v_3), none, none] [.int (if 0 ≤ x2 then 0 else (if (h_6.I (a0 + 16) (Int32.toNatClampNeg (x1 + 2))) = 0 then (if (h_6.I (a0 + 16) (Int32.toNatClampNeg (x1 + 11))) = 0 then 1 else 0) else 0))] := by
      refine z_nmI (fun v_10 hv_11 => ?_)
      have hf := hf v_10 hv_11
      refine z_istore (q := 126) (i := 6) (ls2 := [some (.ref a0), some (.int x1), some (.int x2), some (.int x3), some (.int x4), some (.int v_3), some (.int v_10), none]) (x := v_10) dX13_runs_124 (z_lt rfl) rfl rfl ?_
      refine z_iload (q := 128) (i := 6) (x := v_10) dX13_runs_126 rfl rfl ?_
      refine z_if_eq (q := 131) (tgt := 143) dX13_runs_128 rfl rfl (fun hc => ?_) (fun hc => ?_)
      · have hf := hf.1 hc
        refine z_iconst (q := 144) (v := (-1)) dX13_runs_143 rfl rfl ?_
        refine z_prune [true, true, true, true, true, true, false, false] (ls2 := [some (.ref a0), some (.int x1), some (.int x2), some (.int x3), some (.int x4), some (.int v_3), none, none]) rfl ?_
        exact hf
      · have hf := hf.2 hc
        refine z_aload_n (q := 132) (i := 0) (x := a0) dX13_runs_131 rfl rfl rfl ?_
        refine z_iload_n (q := 133) (i := 1) (x := x1) dX13_runs_132 rfl rfl rfl ?_
        refine z_iload (q := 135) (i := 4) (x := x4) dX13_runs_133 rfl rfl ?_
        refine z_iload (q := 137) (i := 5) (x := v_3) dX13_runs_135 rfl rfl ?_
        refine z_cVi m_X13_findKey [.int x1, .int x4, .int v_3] (a0) (q := 140) (rc2 := 0) (rs2 := 0) (st := []) dX13_runs_137 rfl q2172 oV_X13_findKey rfl rfl ⟨z_le rfl, z_le rfl⟩ (z_le rfl) (z_rcv_of 11 rfl (z_L11_T g_7) rfl) rfl  rfl hf (fun x_12 h_13 hf => ?_)
        refine z_goto (q := 144) dX13_runs_140 rfl ?_
        refine z_prune [true, true, true, true, true, true, false, false] (ls2 := [some (.ref a0), some (.int x1), some (.int x2), some (.int x3), some (.int x4), some (.int v_3), none, none]) rfl ?_
        exact hf
    refine z_if_ge (q := 96) (tgt := 123) dX13_runs_93 rfl rfl (fun hc => ?_) (fun hc => ?_)
    · have hk := (z_ite hk).1 hc
      have hsc := hsc.1 hc
      refine z_iconst (q := 124) (v := 0) dX13_runs_123 rfl rfl ?_
      exact hk
    · have hk := (z_ite hk).2 hc
      have hsc := hsc.2 hc
      obtain ⟨g_8, hsc⟩ := hsc
      refine z_aload_n (q := 97) (i := 0) (x := a0) dX13_runs_96 rfl rfl rfl ?_
      refine z_get 11 22 (q := 100) (v := .ref (a0 + 16)) rfl (z_lt rfl) (z_L11_T g_7) q1780 dX13_runs_97 rfl (z_fvR (fun _ _ _ => rfl) (z_L11_P22 g_7)) ?_
      refine z_iload_n (q := 101) (i := 1) (x := x1) dX13_runs_100 rfl rfl rfl ?_
      refine z_iconst (q := 102) (v := 2) dX13_runs_101 rfl rfl ?_
      refine z_iadd (q := 103) dX13_runs_102 rfl ?_
      refine z_iald (q := 104) (n := 16560) (z_L11_A22 g_7) g_8 dX13_runs_103 rfl ?_
      refine z_if_ne (q := 107) (tgt := 123) dX13_runs_104 rfl rfl (fun hc => ?_) (fun hc => ?_)
      · have hk := (z_ite hk).2 hc
        have hsc := hsc.2 hc
        refine z_iconst (q := 124) (v := 0) dX13_runs_123 rfl rfl ?_
        exact hk
      · have hk := (z_ite hk).1 hc
        have hsc := hsc.1 hc
        obtain ⟨g_9, hsc⟩ := hsc
        refine z_aload_n (q := 108) (i := 0) (x := a0) dX13_runs_107 rfl rfl rfl ?_
        refine z_get 11 22 (q := 111) (v := .ref (a0 + 16)) rfl (z_lt rfl) (z_L11_T g_7) q1780 dX13_runs_108 rfl (z_fvR (fun _ _ _ => rfl) (z_L11_P22 g_7)) ?_
        refine z_iload_n (q := 112) (i := 1) (x := x1) dX13_runs_111 rfl rfl rfl ?_
        refine z_bipush (q := 114) (v := 11) dX13_runs_112 (by decide) rfl ?_
        refine z_iadd (q := 115) dX13_runs_114 rfl ?_
        refine z_iald (q := 116) (n := 16560) (z_L11_A22 g_7) g_9 dX13_runs_115 rfl ?_
        refine z_if_ne (q := 119) (tgt := 123) dX13_runs_116 rfl rfl (fun hc => ?_) (fun hc => ?_)
        · have hk := (z_ite hk).2 hc
          refine z_iconst (q := 124) (v := 0) dX13_runs_123 rfl rfl ?_
          exact hk
        · have hk := (z_ite hk).1 hc
          refine z_iconst (q := 120) (v := 1) dX13_runs_119 rfl rfl ?_
          refine z_goto (q := 124) dX13_runs_120 rfl ?_
          exact hk
  · have hf := hf.2 hc
    refine z_aload_n (q := 79) (i := 0) (x := a0) dX13_runs_78 rfl rfl rfl ?_
    refine z_aload_n (q := 80) (i := 0) (x := a0) dX13_runs_79 rfl rfl rfl ?_
    obtain ⟨g_14, hf⟩ := hf
    refine z_get 11 22 (q := 83) (v := .ref (a0 + 16)) rfl (z_lt rfl) (z_L11_T g_14) q1780 dX13_runs_80 rfl (z_fvR (fun _ _ _ => rfl) (z_L11_P22 g_14)) ?_
    refine z_iload_n (q := 84) (i := 1) (x := x1) dX13_runs_83 rfl rfl rfl ?_
    refine z_bipush (q := 86) (v := 8) dX13_runs_84 (by decide) rfl ?_
    refine z_iadd (q := 87) dX13_runs_86 rfl ?_
    obtain ⟨g_15, hf⟩ := hf
    refine z_iald (q := 88) (n := 16560) (z_L11_A22 g_14) g_15 dX13_runs_87 rfl ?_
    refine z_putI 11 36 (q := 91) (x := (h_6.I (a0 + 16) (Int32.toNatClampNeg (x1 + 8)))) (v := .int (h_6.I (a0 + 16) (Int32.toNatClampNeg (x1 + 8)))) rfl (z_lt rfl) (z_L11_T g_14) q1794 rfl dX13_runs_88 rfl rfl rfl rfl (fun _ _ _ => rfl) ?_
    exact z_vret dX13_runs_91 rfl hf

theorem b_X13_runs_144 {l : Launch} {G : z_G} {a0 : Nat} {x1 : Int32} {x2 : Int32} {x3 : Int32} {x4 : Int32} {x5 : Int32} {s0 : Int32} {h : z_H} {Q : z_Q}  (hf : (s0 < 0 → z_L11 h a0 ∧ vp_in 3 420 ∧ (x4 = (h.I (a0 + 6) (Int32.toNatClampNeg 3)) → Q none (h.sI a0 36 3)) ∧ (¬ x4 = (h.I (a0 + 6) (Int32.toNatClampNeg 3)) → (x5 = x2 → Q none (h.sI a0 36 3)) ∧ (¬ x5 = x2 → z_Ct l G m_X13_plays [.ref a0, .int x1] h (z_Qv (fun h_3 => z_V l G m_X13_runs (z_Fm G m_X13_runs Q) 0 0 h_3 45 [some (.ref a0), some (.int x1), some (.int x2), some (.int x3), some (.int (x4 + 1)), none, none, none] []))))) ∧ (¬ s0 < 0 → z_L11 h a0 ∧ vp_in s0 3010 ∧ vp_in s0 3010 ∧ vp_in s0 3010 ∧ Q none ((((h.sI a0 36 2).sI a0 37 (h.I (a0 + 22) (Int32.toNatClampNeg s0))).sI a0 38 (h.I (a0 + 23) (Int32.toNatClampNeg s0))).sI a0 39 (x4 - (h.I (a0 + 22) (Int32.toNatClampNeg s0)))))) : z_V l G m_X13_runs (z_Fm G m_X13_runs Q) 0 0 h 144 [some (.ref a0), some (.int x1), some (.int x2), some (.int x3), some (.int x4), some (.int x5), none, none] [.int s0] := by
  refine z_istore (q := 146) (i := 7) (ls2 := [some (.ref a0), some (.int x1), some (.int x2), some (.int x3), some (.int x4), some (.int x5), none, some (.int s0)]) (x := s0) dX13_runs_144 (z_lt rfl) rfl rfl ?_
  refine z_iload (q := 148) (i := 7) (x := s0) dX13_runs_146 rfl rfl ?_
  refine z_if_lt (q := 151) (tgt := 193) dX13_runs_148 rfl rfl (fun hc => ?_) (fun hc => ?_)
  · have hf := hf.1 hc
    refine z_iload (q := 195) (i := 4) (x := x4) dX13_runs_193 rfl rfl ?_
    refine z_aload_n (q := 196) (i := 0) (x := a0) dX13_runs_195 rfl rfl rfl ?_
    obtain ⟨g_1, hf⟩ := hf
    refine z_get 11 10 (q := 199) (v := .ref (a0 + 6)) rfl (z_lt rfl) (z_L11_T g_1) q1768 dX13_runs_196 rfl (z_fvR (fun _ _ _ => rfl) (z_L11_P10 g_1)) ?_
    refine z_iconst (q := 200) (v := 3) dX13_runs_199 rfl rfl ?_
    obtain ⟨g_2, hf⟩ := hf
    refine z_iald (q := 201) (n := 420) (z_L11_A10 g_1) g_2 dX13_runs_200 rfl ?_
    refine z_icmp_eq (q := 204) (tgt := 210) dX13_runs_201 rfl rfl (fun hc => ?_) (fun hc => ?_)
    · have hf := hf.1 hc
      refine z_aload_n (q := 211) (i := 0) (x := a0) dX13_runs_210 rfl rfl rfl ?_
      refine z_iconst (q := 212) (v := 3) dX13_runs_211 rfl rfl ?_
      refine z_putI 11 36 (q := 215) (x := 3) (v := .int 3) rfl (z_lt rfl) (z_L11_T g_1) q1794 rfl dX13_runs_212 rfl rfl rfl rfl (fun _ _ _ => rfl) ?_
      exact z_vret dX13_runs_215 rfl hf
    · have hf := hf.2 hc
      refine z_iload (q := 206) (i := 5) (x := x5) dX13_runs_204 rfl rfl ?_
      refine z_iload_n (q := 207) (i := 2) (x := x2) dX13_runs_206 rfl rfl rfl ?_
      refine z_icmp_ne (q := 210) (tgt := 216) dX13_runs_207 rfl rfl (fun hc => ?_) (fun hc => ?_)
      · have hf := hf.2 hc
        refine z_aload_n (q := 217) (i := 0) (x := a0) dX13_runs_216 rfl rfl rfl ?_
        refine z_iload_n (q := 218) (i := 1) (x := x1) dX13_runs_217 rfl rfl rfl ?_
        refine z_cVv m_X13_plays [.int x1] (a0) (q := 221) (rc2 := 0) (rs2 := 0) (st := []) dX13_runs_218 rfl q2112 oV_X13_plays rfl rfl ⟨z_le rfl, z_le rfl⟩ (z_le rfl) (z_rcv_of 11 rfl (z_L11_T g_1) rfl) rfl  rfl hf (fun h_3 hf => ?_)
        refine z_iinc (q := 224) (i := 4) (x := x4) (v := (x4 + 1)) (ls2 := [some (.ref a0), some (.int x1), some (.int x2), some (.int x3), some (.int (x4 + 1)), some (.int x5), none, some (.int s0)]) dX13_runs_221 rfl rfl (z_lt rfl) rfl rfl ?_
        refine z_goto (q := 45) dX13_runs_224 rfl ?_
        refine z_prune [true, true, true, true, true, false, false, false] (ls2 := [some (.ref a0), some (.int x1), some (.int x2), some (.int x3), some (.int (x4 + 1)), none, none, none]) rfl ?_
        exact hf
      · have hf := hf.1 hc
        refine z_aload_n (q := 211) (i := 0) (x := a0) dX13_runs_210 rfl rfl rfl ?_
        refine z_iconst (q := 212) (v := 3) dX13_runs_211 rfl rfl ?_
        refine z_putI 11 36 (q := 215) (x := 3) (v := .int 3) rfl (z_lt rfl) (z_L11_T g_1) q1794 rfl dX13_runs_212 rfl rfl rfl rfl (fun _ _ _ => rfl) ?_
        exact z_vret dX13_runs_215 rfl hf
  · have hf := hf.2 hc
    refine z_aload_n (q := 152) (i := 0) (x := a0) dX13_runs_151 rfl rfl rfl ?_
    refine z_iconst (q := 153) (v := 2) dX13_runs_152 rfl rfl ?_
    obtain ⟨g_4, hf⟩ := hf
    refine z_putI 11 36 (q := 156) (x := 2) (v := .int 2) rfl (z_lt rfl) (z_L11_T g_4) q1794 rfl dX13_runs_153 rfl rfl rfl rfl (fun _ _ _ => rfl) ?_
    refine z_aload_n (q := 157) (i := 0) (x := a0) dX13_runs_156 rfl rfl rfl ?_
    refine z_aload_n (q := 158) (i := 0) (x := a0) dX13_runs_157 rfl rfl rfl ?_
    refine z_get 11 31 (q := 161) (v := .ref (a0 + 22)) rfl (z_lt rfl) (z_L11_T g_4) q1789 dX13_runs_158 rfl (z_fvR (fun _ _ _ => rfl) (z_L11_P31 g_4)) ?_
    refine z_iload (q := 163) (i := 7) (x := s0) dX13_runs_161 rfl rfl ?_
    obtain ⟨g_5, hf⟩ := hf
    refine z_iald (q := 164) (n := 3010) (z_L11_A31 g_4) g_5 dX13_runs_163 rfl ?_
    refine z_topI (z_rIa (by omega)) ?_
    refine z_putI 11 37 (q := 167) (x := (h.I (a0 + 22) (Int32.toNatClampNeg s0))) (v := .int (h.I (a0 + 22) (Int32.toNatClampNeg s0))) rfl (z_lt rfl) (z_L11_T g_4) q1795 rfl dX13_runs_164 rfl rfl rfl rfl (fun _ _ _ => rfl) ?_
    refine z_aload_n (q := 168) (i := 0) (x := a0) dX13_runs_167 rfl rfl rfl ?_
    refine z_aload_n (q := 169) (i := 0) (x := a0) dX13_runs_168 rfl rfl rfl ?_
    refine z_get 11 32 (q := 172) (v := .ref (a0 + 23)) rfl (z_lt rfl) (z_L11_T g_4) q1790 dX13_runs_169 rfl (z_fvR (fun _ _ _ => rfl) (z_L11_P32 g_4)) ?_
    refine z_iload (q := 174) (i := 7) (x := s0) dX13_runs_172 rfl rfl ?_
    obtain ⟨g_6, hf⟩ := hf
    refine z_iald (q := 175) (n := 3010) (z_L11_A32 g_4) g_6 dX13_runs_174 rfl ?_
    refine z_topI (Eq.trans (z_rIa (by omega)) (z_rIa (by omega))) ?_
    refine z_putI 11 38 (q := 178) (x := (h.I (a0 + 23) (Int32.toNatClampNeg s0))) (v := .int (h.I (a0 + 23) (Int32.toNatClampNeg s0))) rfl (z_lt rfl) (z_L11_T g_4) q1796 rfl dX13_runs_175 rfl rfl rfl rfl (fun _ _ _ => rfl) ?_
    refine z_aload_n (q := 179) (i := 0) (x := a0) dX13_runs_178 rfl rfl rfl ?_
    refine z_iload (q := 181) (i := 4) (x := x4) dX13_runs_179 rfl rfl ?_
    refine z_aload_n (q := 182) (i := 0) (x := a0) dX13_runs_181 rfl rfl rfl ?_
    refine z_get 11 31 (q := 185) (v := .ref (a0 + 22)) rfl (z_lt rfl) (z_L11_T g_4) q1789 dX13_runs_182 rfl (z_fvR (fun _ _ _ => rfl) (z_L11_P31 g_4)) ?_
    refine z_iload (q := 187) (i := 7) (x := s0) dX13_runs_185 rfl rfl ?_
    obtain ⟨g_7, hf⟩ := hf
    refine z_iald (q := 188) (n := 3010) (z_L11_A31 g_4) g_7 dX13_runs_187 rfl ?_
    refine z_topI (Eq.trans (z_rIa (by omega)) (Eq.trans (z_rIa (by omega)) (z_rIa (by omega)))) ?_
    refine z_isub (q := 189) dX13_runs_188 rfl ?_
    refine z_putI 11 39 (q := 192) (x := (x4 - (h.I (a0 + 22) (Int32.toNatClampNeg s0)))) (v := .int (x4 - (h.I (a0 + 22) (Int32.toNatClampNeg s0)))) rfl (z_lt rfl) (z_L11_T g_4) q1797 rfl dX13_runs_189 rfl rfl rfl rfl (fun _ _ _ => rfl) ?_
    exact z_vret dX13_runs_192 rfl hf

theorem u_X13_runsDrawn {l : Launch} {G : z_G} {a0 : Nat} {h : z_H} {Q : z_Q} (hst : l.stackTraces = false)  (hf : z_L11 h a0 ∧ z_Ct l G m_X13_drawsPack [.ref a0] h (z_Qv (fun h_2 => z_L11 h_2 a0 ∧ vp_in 2 420 ∧ z_Ct l G m_X13_dealsTrial [.ref a0, .ref (a0 + 26), .int (h_2.I a0 41), .int (h_2.I (a0 + 6) (Int32.toNatClampNeg 2))] h_2 (z_Qv (fun h_5 => z_L11 h_5 a0 ∧ z_Ct l G m_X13_runs [.ref a0, .int 9660, .int (-1)] h_5 (z_Qv (fun h_7 => Q none h_7))))))) : z_Ct l G m_X13_runsDrawn [.ref a0] h Q := by
  refine z_Ct.of (ls := [some (.ref a0)]) hst rfl (by show plainName yX13_runsDrawn.cls = true; decide +kernel) (z_le rfl) rfl ?_
  show z_V l G m_X13_runsDrawn (z_Fm G m_X13_runsDrawn Q) 0 0 h 0 [some (.ref a0)] []
  refine z_aload_n (q := 1) (i := 0) (x := a0) dX13_runsDrawn_0 rfl rfl rfl ?_
  obtain ⟨g_1, hf⟩ := hf
  refine z_cVv m_X13_drawsPack [] (a0) (q := 4) (rc2 := 0) (rs2 := 0) (st := []) dX13_runsDrawn_1 rfl q2325 oV_X13_drawsPack rfl rfl ⟨z_le rfl, z_le rfl⟩ (z_le rfl) (z_rcv_of 11 rfl (z_L11_T g_1) rfl) rfl  rfl hf (fun h_2 hf => ?_)
  refine z_aload_n (q := 5) (i := 0) (x := a0) dX13_runsDrawn_4 rfl rfl rfl ?_
  refine z_aload_n (q := 6) (i := 0) (x := a0) dX13_runsDrawn_5 rfl rfl rfl ?_
  obtain ⟨g_3, hf⟩ := hf
  refine z_get 11 40 (q := 9) (v := .ref (a0 + 26)) rfl (z_lt rfl) (z_L11_T g_3) q1798 dX13_runsDrawn_6 rfl (z_fvR (fun _ _ _ => rfl) (z_L11_P40 g_3)) ?_
  refine z_aload_n (q := 10) (i := 0) (x := a0) dX13_runsDrawn_9 rfl rfl rfl ?_
  refine z_get 11 41 (q := 13) (v := .int (h_2.I a0 41)) rfl (z_lt rfl) (z_L11_T g_3) q1799 dX13_runsDrawn_10 rfl rfl ?_
  refine z_aload_n (q := 14) (i := 0) (x := a0) dX13_runsDrawn_13 rfl rfl rfl ?_
  refine z_get 11 10 (q := 17) (v := .ref (a0 + 6)) rfl (z_lt rfl) (z_L11_T g_3) q1768 dX13_runsDrawn_14 rfl (z_fvR (fun _ _ _ => rfl) (z_L11_P10 g_3)) ?_
  refine z_iconst (q := 18) (v := 2) dX13_runsDrawn_17 rfl rfl ?_
  obtain ⟨g_4, hf⟩ := hf
  refine z_iald (q := 19) (n := 420) (z_L11_A10 g_3) g_4 dX13_runsDrawn_18 rfl ?_
  refine z_cVv m_X13_dealsTrial [.ref (a0 + 26), .int (h_2.I a0 41), .int (h_2.I (a0 + 6) (Int32.toNatClampNeg 2))] (a0) (q := 22) (rc2 := 0) (rs2 := 0) (st := []) dX13_runsDrawn_19 rfl q2203 oV_X13_dealsTrial rfl rfl ⟨z_le rfl, z_le rfl⟩ (z_le rfl) (z_rcv_of 11 rfl (z_L11_T g_3) rfl) rfl  rfl hf (fun h_5 hf => ?_)
  refine z_aload_n (q := 23) (i := 0) (x := a0) dX13_runsDrawn_22 rfl rfl rfl ?_
  refine z_sipush (q := 26) (v := 9660) dX13_runsDrawn_23 (by decide) rfl ?_
  refine z_iconst (q := 27) (v := (-1)) dX13_runsDrawn_26 rfl rfl ?_
  obtain ⟨g_6, hf⟩ := hf
  refine z_cVv m_X13_runs [.int 9660, .int (-1)] (a0) (q := 30) (rc2 := 0) (rs2 := 0) (st := []) dX13_runsDrawn_27 rfl q2168 oV_X13_runs rfl rfl ⟨z_le rfl, z_le rfl⟩ (z_le rfl) (z_rcv_of 11 rfl (z_L11_T g_6) rfl) rfl  rfl hf (fun h_7 hf => ?_)
  exact z_vret dX13_runsDrawn_30 rfl hf

theorem u_X13_runsNow {l : Launch} {G : z_G} {a0 : Nat} {h : z_H} {Q : z_Q} (hst : l.stackTraces = false)  (hf : z_L11 h a0 ∧ z_Ct l G m_X13_copies [.ref a0, .int 0, .int 9660, .int 164] h (z_Qv (fun h_2 => z_L11 h_2 a0 ∧ z_Ct l G m_X13_runs [.ref a0, .int 9660, .int (-1)] h_2 (z_Qv (fun h_4 => Q none h_4))))) : z_Ct l G m_X13_runsNow [.ref a0] h Q := by
  refine z_Ct.of (ls := [some (.ref a0)]) hst rfl (by show plainName yX13_runsNow.cls = true; decide +kernel) (z_le rfl) rfl ?_
  show z_V l G m_X13_runsNow (z_Fm G m_X13_runsNow Q) 0 0 h 0 [some (.ref a0)] []
  refine z_aload_n (q := 1) (i := 0) (x := a0) dX13_runsNow_0 rfl rfl rfl ?_
  refine z_iconst (q := 2) (v := 0) dX13_runsNow_1 rfl rfl ?_
  refine z_sipush (q := 5) (v := 9660) dX13_runsNow_2 (by decide) rfl ?_
  refine z_sipush (q := 8) (v := 164) dX13_runsNow_5 (by decide) rfl ?_
  obtain ⟨g_1, hf⟩ := hf
  refine z_cVv m_X13_copies [.int 0, .int 9660, .int 164] (a0) (q := 11) (rc2 := 0) (rs2 := 0) (st := []) dX13_runsNow_8 rfl q2104 oV_X13_copies rfl rfl ⟨z_le rfl, z_le rfl⟩ (z_le rfl) (z_rcv_of 11 rfl (z_L11_T g_1) rfl) rfl  rfl hf (fun h_2 hf => ?_)
  refine z_aload_n (q := 12) (i := 0) (x := a0) dX13_runsNow_11 rfl rfl rfl ?_
  refine z_sipush (q := 15) (v := 9660) dX13_runsNow_12 (by decide) rfl ?_
  refine z_iconst (q := 16) (v := (-1)) dX13_runsNow_15 rfl rfl ?_
  obtain ⟨g_3, hf⟩ := hf
  refine z_cVv m_X13_runs [.int 9660, .int (-1)] (a0) (q := 19) (rc2 := 0) (rs2 := 0) (st := []) dX13_runsNow_16 rfl q2168 oV_X13_runs rfl rfl ⟨z_le rfl, z_le rfl⟩ (z_le rfl) (z_rcv_of 11 rfl (z_L11_T g_3) rfl) rfl  rfl hf (fun h_4 hf => ?_)
  exact z_vret dX13_runsNow_19 rfl hf

theorem u_X13_slip {l : Launch} {G : z_G} {a0 : Nat} {x1 : Int32} {h : z_H} {Q : z_Q} (hst : l.stackTraces = false)  (hf : z_L11 h a0 ∧ vp_in 3 16560 ∧ ∀ v_3 : Int32, v_3 = (h.I (a0 + 16) (Int32.toNatClampNeg 3)) → z_Ct l G m_X13_within [.int x1, .int 0, .int 2] (h.sI a0 0 0) (z_Qi (fun x_5 h_6 => (x_5 = 0 → Q (some (.int 0)) h_6) ∧ (¬ x_5 = 0 → z_L11 h_6 a0 ∧ vp_in 8 16560 ∧ (0 ≤ (h_6.I (a0 + 16) (Int32.toNatClampNeg 8)) → Q (some (.int 0)) h_6) ∧ (¬ 0 ≤ (h_6.I (a0 + 16) (Int32.toNatClampNeg 8)) → (x1 = 1 → vp_in 11 16560 ∧ ((h_6.I (a0 + 16) (Int32.toNatClampNeg 11)) = 1 → Q (some (.int 0)) h_6) ∧ (¬ (h_6.I (a0 + 16) (Int32.toNatClampNeg 11)) = 1 → (x1 = 1 → z_V l G m_X13_slip (z_Fm G m_X13_slip Q) 0 0 h_6 66 [some (.ref a0), some (.int x1), some (.int v_3), none, none, none] []) ∧ (¬ x1 = 1 → vp_in (0 + v_3) 16560 ∧ (2 ≤ (h_6.I (a0 + 16) (Int32.toNatClampNeg (0 + v_3))) → z_V l G m_X13_slip (z_Fm G m_X13_slip Q) 0 0 h_6 66 [some (.ref a0), some (.int x1), some (.int v_3), none, none, none] []) ∧ (¬ 2 ≤ (h_6.I (a0 + 16) (Int32.toNatClampNeg (0 + v_3))) → Q (some (.int 0)) h_6)))) ∧ (¬ x1 = 1 → (x1 = 1 → z_V l G m_X13_slip (z_Fm G m_X13_slip Q) 0 0 h_6 66 [some (.ref a0), some (.int x1), some (.int v_3), none, none, none] []) ∧ (¬ x1 = 1 → vp_in (0 + v_3) 16560 ∧ (2 ≤ (h_6.I (a0 + 16) (Int32.toNatClampNeg (0 + v_3))) → z_V l G m_X13_slip (z_Fm G m_X13_slip Q) 0 0 h_6 66 [some (.ref a0), some (.int x1), some (.int v_3), none, none, none] []) ∧ (¬ 2 ≤ (h_6.I (a0 + 16) (Int32.toNatClampNeg (0 + v_3))) → Q (some (.int 0)) h_6)))))))) : z_Ct l G m_X13_slip [.ref a0, .int x1] h Q := by
  refine z_Ct.of (ls := [some (.ref a0), some (.int x1), none, none, none, none]) hst rfl (by show plainName yX13_slip.cls = true; decide +kernel) (z_le rfl) rfl ?_
  show z_V l G m_X13_slip (z_Fm G m_X13_slip Q) 0 0 h 0 [some (.ref a0), some (.int x1), none, none, none, none] []
  refine z_aload_n (q := 1) (i := 0) (x := a0) dX13_slip_0 rfl rfl rfl ?_
  refine z_iconst (q := 2) (v := 0) dX13_slip_1 rfl rfl ?_
  obtain ⟨g_1, hf⟩ := hf
  refine z_putI 11 0 (q := 5) (x := 0) (v := .int 0) rfl (z_lt rfl) (z_L11_T g_1) q1758 rfl dX13_slip_2 rfl rfl rfl rfl (fun _ _ _ => rfl) ?_
  refine z_aload_n (q := 6) (i := 0) (x := a0) dX13_slip_5 rfl rfl rfl ?_
  refine z_get 11 22 (q := 9) (v := .ref (a0 + 16)) rfl (z_lt rfl) (z_L11_T g_1) q1780 dX13_slip_6 rfl (z_fvR (fun _ _ _ => rfl) (z_L11_P22 g_1)) ?_
  refine z_iconst (q := 10) (v := 3) dX13_slip_9 rfl rfl ?_
  obtain ⟨g_2, hf⟩ := hf
  refine z_iald (q := 11) (n := 16560) (z_L11_A22 g_1) g_2 dX13_slip_10 rfl ?_
  refine z_topI (z_rIa (by omega)) ?_
  refine z_nmI (fun v_3 hv_4 => ?_)
  have hf := hf v_3 hv_4
  refine z_istore_n (q := 12) (i := 2) (ls2 := [some (.ref a0), some (.int x1), some (.int v_3), none, none, none]) (x := v_3) dX13_slip_11 rfl (z_lt rfl) rfl rfl ?_
  refine z_iload_n (q := 13) (i := 1) (x := x1) dX13_slip_12 rfl rfl rfl ?_
  refine z_iconst (q := 14) (v := 0) dX13_slip_13 rfl rfl ?_
  refine z_iconst (q := 15) (v := 2) dX13_slip_14 rfl rfl ?_
  refine z_cSi m_X13_within [.int x1, .int 0, .int 2] (q := 18) (rc2 := 0) (rs2 := 0) (st := []) dX13_slip_15 rfl q2074 oS_X13_within rfl rfl ⟨z_le rfl, z_le rfl⟩ (z_le rfl) rfl  rfl hf (fun x_5 h_6 hf => ?_)
  refine z_if_eq (q := 21) (tgt := 64) dX13_slip_18 rfl rfl (fun hc => ?_) (fun hc => ?_)
  · have hf := hf.1 hc
    refine z_iconst (q := 65) (v := 0) dX13_slip_64 rfl rfl ?_
    exact z_zret dX13_slip_65 rfl (z_nb01 z_b0) hf
  · have hf := hf.2 hc
    refine z_aload_n (q := 22) (i := 0) (x := a0) dX13_slip_21 rfl rfl rfl ?_
    obtain ⟨g_7, hf⟩ := hf
    refine z_get 11 22 (q := 25) (v := .ref (a0 + 16)) rfl (z_lt rfl) (z_L11_T g_7) q1780 dX13_slip_22 rfl (z_fvR (fun _ _ _ => rfl) (z_L11_P22 g_7)) ?_
    refine z_bipush (q := 27) (v := 8) dX13_slip_25 (by decide) rfl ?_
    obtain ⟨g_8, hf⟩ := hf
    refine z_iald (q := 28) (n := 16560) (z_L11_A22 g_7) g_8 dX13_slip_27 rfl ?_
    refine z_if_ge (q := 31) (tgt := 64) dX13_slip_28 rfl rfl (fun hc => ?_) (fun hc => ?_)
    · have hf := hf.1 hc
      refine z_iconst (q := 65) (v := 0) dX13_slip_64 rfl rfl ?_
      exact z_zret dX13_slip_65 rfl (z_nb01 z_b0) hf
    · have hf := hf.2 hc
      refine z_iload_n (q := 32) (i := 1) (x := x1) dX13_slip_31 rfl rfl rfl ?_
      refine z_iconst (q := 33) (v := 1) dX13_slip_32 rfl rfl ?_
      refine z_icmp_ne (q := 36) (tgt := 47) dX13_slip_33 rfl rfl (fun hc => ?_) (fun hc => ?_)
      · have hf := hf.2 hc
        refine z_iload_n (q := 48) (i := 1) (x := x1) dX13_slip_47 rfl rfl rfl ?_
        refine z_iconst (q := 49) (v := 1) dX13_slip_48 rfl rfl ?_
        refine z_icmp_eq (q := 52) (tgt := 66) dX13_slip_49 rfl rfl (fun hc => ?_) (fun hc => ?_)
        · have hf := hf.1 hc
          exact hf
        · have hf := hf.2 hc
          refine z_aload_n (q := 53) (i := 0) (x := a0) dX13_slip_52 rfl rfl rfl ?_
          refine z_get 11 22 (q := 56) (v := .ref (a0 + 16)) rfl (z_lt rfl) (z_L11_T g_7) q1780 dX13_slip_53 rfl (z_fvR (fun _ _ _ => rfl) (z_L11_P22 g_7)) ?_
          refine z_iconst (q := 57) (v := 0) dX13_slip_56 rfl rfl ?_
          refine z_iload_n (q := 58) (i := 2) (x := v_3) dX13_slip_57 rfl rfl rfl ?_
          refine z_iadd (q := 59) dX13_slip_58 rfl ?_
          obtain ⟨g_9, hf⟩ := hf
          refine z_iald (q := 60) (n := 16560) (z_L11_A22 g_7) g_9 dX13_slip_59 rfl ?_
          refine z_iconst (q := 61) (v := 2) dX13_slip_60 rfl rfl ?_
          refine z_icmp_ge (q := 64) (tgt := 66) dX13_slip_61 rfl rfl (fun hc => ?_) (fun hc => ?_)
          · have hf := hf.1 hc
            exact hf
          · have hf := hf.2 hc
            refine z_iconst (q := 65) (v := 0) dX13_slip_64 rfl rfl ?_
            exact z_zret dX13_slip_65 rfl (z_nb01 z_b0) hf
      · have hf := hf.1 hc
        refine z_aload_n (q := 37) (i := 0) (x := a0) dX13_slip_36 rfl rfl rfl ?_
        refine z_get 11 22 (q := 40) (v := .ref (a0 + 16)) rfl (z_lt rfl) (z_L11_T g_7) q1780 dX13_slip_37 rfl (z_fvR (fun _ _ _ => rfl) (z_L11_P22 g_7)) ?_
        refine z_bipush (q := 42) (v := 11) dX13_slip_40 (by decide) rfl ?_
        obtain ⟨g_10, hf⟩ := hf
        refine z_iald (q := 43) (n := 16560) (z_L11_A22 g_7) g_10 dX13_slip_42 rfl ?_
        refine z_iconst (q := 44) (v := 1) dX13_slip_43 rfl rfl ?_
        refine z_icmp_eq (q := 47) (tgt := 64) dX13_slip_44 rfl rfl (fun hc => ?_) (fun hc => ?_)
        · have hf := hf.1 hc
          refine z_iconst (q := 65) (v := 0) dX13_slip_64 rfl rfl ?_
          exact z_zret dX13_slip_65 rfl (z_nb01 z_b0) hf
        · have hf := hf.2 hc
          refine z_iload_n (q := 48) (i := 1) (x := x1) dX13_slip_47 rfl rfl rfl ?_
          refine z_iconst (q := 49) (v := 1) dX13_slip_48 rfl rfl ?_
          refine z_icmp_eq (q := 52) (tgt := 66) dX13_slip_49 rfl rfl (fun hc => ?_) (fun hc => ?_)
          · have hf := hf.1 hc
            exact hf
          · have hf := hf.2 hc
            refine z_aload_n (q := 53) (i := 0) (x := a0) dX13_slip_52 rfl rfl rfl ?_
            refine z_get 11 22 (q := 56) (v := .ref (a0 + 16)) rfl (z_lt rfl) (z_L11_T g_7) q1780 dX13_slip_53 rfl (z_fvR (fun _ _ _ => rfl) (z_L11_P22 g_7)) ?_
            refine z_iconst (q := 57) (v := 0) dX13_slip_56 rfl rfl ?_
            refine z_iload_n (q := 58) (i := 2) (x := v_3) dX13_slip_57 rfl rfl rfl ?_
            refine z_iadd (q := 59) dX13_slip_58 rfl ?_
            obtain ⟨g_11, hf⟩ := hf
            refine z_iald (q := 60) (n := 16560) (z_L11_A22 g_7) g_11 dX13_slip_59 rfl ?_
            refine z_iconst (q := 61) (v := 2) dX13_slip_60 rfl rfl ?_
            refine z_icmp_ge (q := 64) (tgt := 66) dX13_slip_61 rfl rfl (fun hc => ?_) (fun hc => ?_)
            · have hf := hf.1 hc
              exact hf
            · have hf := hf.2 hc
              refine z_iconst (q := 65) (v := 0) dX13_slip_64 rfl rfl ?_
              exact z_zret dX13_slip_65 rfl (z_nb01 z_b0) hf

theorem b_X13_slip_66 {l : Launch} {G : z_G} {a0 : Nat} {x1 : Int32} {x2 : Int32} {h : z_H} {Q : z_Q}  (hf : z_L11 h a0 ∧ z_Ct l G m_X13_keeps [.ref a0] h (z_Qv (fun h_2 => (x1 = 0 → z_L11 h_2 a0 ∧ z_Ct l G m_X13_turns [.ref a0, .int 0] h_2 (z_Qi (fun x_12 h_13 => z_L11 h_13 a0 ∧ z_Ct l G m_X13_plays [.ref a0, .int 0] h_13 (z_Qv (fun h_15 => Q (some (.int 1)) h_15))))) ∧ (¬ x1 = 0 → (x1 = 1 → z_L11 h_2 a0 ∧ vp_in 11 16560 ∧ Q (some (.int 1)) (h_2.sI (a0 + 16) (Int32.toNatClampNeg 11) 1)) ∧ (¬ x1 = 1 → ∀ v_3 : Int32, v_3 = (20 + (48 * x2)) → z_L11 h_2 a0 ∧ vp_in v_3 16560 ∧ ∀ v_7 : Int32, v_7 = (h_2.I (a0 + 16) (Int32.toNatClampNeg v_3)) → z_V l G m_X13_slip (z_Fm G m_X13_slip Q) 0 0 h_2 123 [some (.ref a0), none, some (.int x2), some (.int v_3), some (.int v_7), some (.int 1)] []))))) : z_V l G m_X13_slip (z_Fm G m_X13_slip Q) 0 0 h 66 [some (.ref a0), some (.int x1), some (.int x2), none, none, none] [] := by
  refine z_aload_n (q := 67) (i := 0) (x := a0) dX13_slip_66 rfl rfl rfl ?_
  obtain ⟨g_1, hf⟩ := hf
  refine z_cVv m_X13_keeps [] (a0) (q := 70) (rc2 := 0) (rs2 := 0) (st := []) dX13_slip_67 rfl q2100 oV_X13_keeps rfl rfl ⟨z_le rfl, z_le rfl⟩ (z_le rfl) (z_rcv_of 11 rfl (z_L11_T g_1) rfl) rfl  rfl hf (fun h_2 hf => ?_)
  refine z_iload_n (q := 71) (i := 1) (x := x1) dX13_slip_70 rfl rfl rfl ?_
  refine z_if_ne (q := 74) (tgt := 88) dX13_slip_71 rfl rfl (fun hc => ?_) (fun hc => ?_)
  · have hf := hf.2 hc
    refine z_iload_n (q := 89) (i := 1) (x := x1) dX13_slip_88 rfl rfl rfl ?_
    refine z_iconst (q := 90) (v := 1) dX13_slip_89 rfl rfl ?_
    refine z_icmp_ne (q := 93) (tgt := 104) dX13_slip_90 rfl rfl (fun hc => ?_) (fun hc => ?_)
    · have hf := hf.2 hc
      refine z_bipush (q := 106) (v := 20) dX13_slip_104 (by decide) rfl ?_
      refine z_bipush (q := 108) (v := 48) dX13_slip_106 (by decide) rfl ?_
      refine z_iload_n (q := 109) (i := 2) (x := x2) dX13_slip_108 rfl rfl rfl ?_
      refine z_imul (q := 110) dX13_slip_109 rfl ?_
      refine z_iadd (q := 111) dX13_slip_110 rfl ?_
      refine z_nmI (fun v_3 hv_4 => ?_)
      have hf := hf v_3 hv_4
      refine z_istore_n (q := 112) (i := 3) (ls2 := [some (.ref a0), some (.int x1), some (.int x2), some (.int v_3), none, none]) (x := v_3) dX13_slip_111 rfl (z_lt rfl) rfl rfl ?_
      refine z_aload_n (q := 113) (i := 0) (x := a0) dX13_slip_112 rfl rfl rfl ?_
      obtain ⟨g_5, hf⟩ := hf
      refine z_get 11 22 (q := 116) (v := .ref (a0 + 16)) rfl (z_lt rfl) (z_L11_T g_5) q1780 dX13_slip_113 rfl (z_fvR (fun _ _ _ => rfl) (z_L11_P22 g_5)) ?_
      refine z_iload_n (q := 117) (i := 3) (x := v_3) dX13_slip_116 rfl rfl rfl ?_
      obtain ⟨g_6, hf⟩ := hf
      refine z_iald (q := 118) (n := 16560) (z_L11_A22 g_5) g_6 dX13_slip_117 rfl ?_
      refine z_nmI (fun v_7 hv_8 => ?_)
      have hf := hf v_7 hv_8
      refine z_istore (q := 120) (i := 4) (ls2 := [some (.ref a0), some (.int x1), some (.int x2), some (.int v_3), some (.int v_7), none]) (x := v_7) dX13_slip_118 (z_lt rfl) rfl rfl ?_
      refine z_iconst (q := 121) (v := 1) dX13_slip_120 rfl rfl ?_
      refine z_istore (q := 123) (i := 5) (ls2 := [some (.ref a0), some (.int x1), some (.int x2), some (.int v_3), some (.int v_7), some (.int 1)]) (x := 1) dX13_slip_121 (z_lt rfl) rfl rfl ?_
      refine z_prune [true, false, true, true, true, true] (ls2 := [some (.ref a0), none, some (.int x2), some (.int v_3), some (.int v_7), some (.int 1)]) rfl ?_
      exact hf
    · have hf := hf.1 hc
      refine z_aload_n (q := 94) (i := 0) (x := a0) dX13_slip_93 rfl rfl rfl ?_
      obtain ⟨g_9, hf⟩ := hf
      refine z_get 11 22 (q := 97) (v := .ref (a0 + 16)) rfl (z_lt rfl) (z_L11_T g_9) q1780 dX13_slip_94 rfl (z_fvR (fun _ _ _ => rfl) (z_L11_P22 g_9)) ?_
      refine z_bipush (q := 99) (v := 11) dX13_slip_97 (by decide) rfl ?_
      refine z_iconst (q := 100) (v := 1) dX13_slip_99 rfl rfl ?_
      obtain ⟨g_10, hf⟩ := hf
      refine z_iast (q := 101) (n := 16560) (z_L11_A22 g_9) g_10 dX13_slip_100 rfl ?_
      refine z_goto (q := 181) dX13_slip_101 rfl ?_
      refine z_iconst (q := 182) (v := 1) dX13_slip_181 rfl rfl ?_
      exact z_zret dX13_slip_182 rfl (z_nb01 z_b1) hf
  · have hf := hf.1 hc
    refine z_aload_n (q := 75) (i := 0) (x := a0) dX13_slip_74 rfl rfl rfl ?_
    refine z_iconst (q := 76) (v := 0) dX13_slip_75 rfl rfl ?_
    obtain ⟨g_11, hf⟩ := hf
    refine z_cVi m_X13_turns [.int 0] (a0) (q := 79) (rc2 := 0) (rs2 := 0) (st := []) dX13_slip_76 rfl q2120 oV_X13_turns rfl rfl ⟨z_le rfl, z_le rfl⟩ (z_le rfl) (z_rcv_of 11 rfl (z_L11_T g_11) rfl) rfl  rfl hf (fun x_12 h_13 hf => ?_)
    refine z_pop (q := 80) dX13_slip_79 rfl rfl ?_
    refine z_aload_n (q := 81) (i := 0) (x := a0) dX13_slip_80 rfl rfl rfl ?_
    refine z_iconst (q := 82) (v := 0) dX13_slip_81 rfl rfl ?_
    obtain ⟨g_14, hf⟩ := hf
    refine z_cVv m_X13_plays [.int 0] (a0) (q := 85) (rc2 := 0) (rs2 := 0) (st := []) dX13_slip_82 rfl q2112 oV_X13_plays rfl rfl ⟨z_le rfl, z_le rfl⟩ (z_le rfl) (z_rcv_of 11 rfl (z_L11_T g_14) rfl) rfl  rfl hf (fun h_15 hf => ?_)
    refine z_goto (q := 181) dX13_slip_85 rfl ?_
    refine z_iconst (q := 182) (v := 1) dX13_slip_181 rfl rfl ?_
    exact z_zret dX13_slip_182 rfl (z_nb01 z_b1) hf

theorem b_X13_slip_123 {l : Launch} {G : z_G} {a0 : Nat} {x2 : Int32} {x3 : Int32} {x4 : Int32} {x5 : Int32} {h : z_H} {Q : z_Q}  (hf : z_L11 h a0 ∧ vp_in (0 + x2) 16560 ∧ ((h.I (a0 + 16) (Int32.toNatClampNeg (0 + x2))) ≤ x5 → vp_in (0 + x2) 16560 ∧ vp_in ((x3 + (h.I (a0 + 16) (Int32.toNatClampNeg (0 + x2)))) - 1) 16560 ∧ Q (some (.int 1)) (h.sI (a0 + 16) (Int32.toNatClampNeg ((x3 + (h.I (a0 + 16) (Int32.toNatClampNeg (0 + x2)))) - 1)) x4)) ∧ (¬ (h.I (a0 + 16) (Int32.toNatClampNeg (0 + x2))) ≤ x5 → vp_in (x3 + x5) 16560 ∧ vp_in ((x3 + x5) - 1) 16560 ∧ z_V l G m_X13_slip (z_Fm G m_X13_slip Q) 0 0 (h.sI (a0 + 16) (Int32.toNatClampNeg ((x3 + x5) - 1)) (h.I (a0 + 16) (Int32.toNatClampNeg (x3 + x5)))) 123 [some (.ref a0), none, some (.int x2), some (.int x3), some (.int x4), some (.int (x5 + 1))] [])) : z_V l G m_X13_slip (z_Fm G m_X13_slip Q) 0 0 h 123 [some (.ref a0), none, some (.int x2), some (.int x3), some (.int x4), some (.int x5)] [] := by
  refine z_iload (q := 125) (i := 5) (x := x5) dX13_slip_123 rfl rfl ?_
  refine z_aload_n (q := 126) (i := 0) (x := a0) dX13_slip_125 rfl rfl rfl ?_
  obtain ⟨g_1, hf⟩ := hf
  refine z_get 11 22 (q := 129) (v := .ref (a0 + 16)) rfl (z_lt rfl) (z_L11_T g_1) q1780 dX13_slip_126 rfl (z_fvR (fun _ _ _ => rfl) (z_L11_P22 g_1)) ?_
  refine z_iconst (q := 130) (v := 0) dX13_slip_129 rfl rfl ?_
  refine z_iload_n (q := 131) (i := 2) (x := x2) dX13_slip_130 rfl rfl rfl ?_
  refine z_iadd (q := 132) dX13_slip_131 rfl ?_
  obtain ⟨g_2, hf⟩ := hf
  refine z_iald (q := 133) (n := 16560) (z_L11_A22 g_1) g_2 dX13_slip_132 rfl ?_
  refine z_icmp_ge (q := 136) (tgt := 162) dX13_slip_133 rfl rfl (fun hc => ?_) (fun hc => ?_)
  · have hf := hf.1 hc
    refine z_aload_n (q := 163) (i := 0) (x := a0) dX13_slip_162 rfl rfl rfl ?_
    refine z_get 11 22 (q := 166) (v := .ref (a0 + 16)) rfl (z_lt rfl) (z_L11_T g_1) q1780 dX13_slip_163 rfl (z_fvR (fun _ _ _ => rfl) (z_L11_P22 g_1)) ?_
    refine z_iload_n (q := 167) (i := 3) (x := x3) dX13_slip_166 rfl rfl rfl ?_
    refine z_aload_n (q := 168) (i := 0) (x := a0) dX13_slip_167 rfl rfl rfl ?_
    refine z_get 11 22 (q := 171) (v := .ref (a0 + 16)) rfl (z_lt rfl) (z_L11_T g_1) q1780 dX13_slip_168 rfl (z_fvR (fun _ _ _ => rfl) (z_L11_P22 g_1)) ?_
    refine z_iconst (q := 172) (v := 0) dX13_slip_171 rfl rfl ?_
    refine z_iload_n (q := 173) (i := 2) (x := x2) dX13_slip_172 rfl rfl rfl ?_
    refine z_iadd (q := 174) dX13_slip_173 rfl ?_
    obtain ⟨g_3, hf⟩ := hf
    refine z_iald (q := 175) (n := 16560) (z_L11_A22 g_1) g_3 dX13_slip_174 rfl ?_
    refine z_iadd (q := 176) dX13_slip_175 rfl ?_
    refine z_iconst (q := 177) (v := 1) dX13_slip_176 rfl rfl ?_
    refine z_isub (q := 178) dX13_slip_177 rfl ?_
    refine z_iload (q := 180) (i := 4) (x := x4) dX13_slip_178 rfl rfl ?_
    obtain ⟨g_4, hf⟩ := hf
    refine z_iast (q := 181) (n := 16560) (z_L11_A22 g_1) g_4 dX13_slip_180 rfl ?_
    refine z_iconst (q := 182) (v := 1) dX13_slip_181 rfl rfl ?_
    exact z_zret dX13_slip_182 rfl (z_nb01 z_b1) hf
  · have hf := hf.2 hc
    refine z_aload_n (q := 137) (i := 0) (x := a0) dX13_slip_136 rfl rfl rfl ?_
    refine z_get 11 22 (q := 140) (v := .ref (a0 + 16)) rfl (z_lt rfl) (z_L11_T g_1) q1780 dX13_slip_137 rfl (z_fvR (fun _ _ _ => rfl) (z_L11_P22 g_1)) ?_
    refine z_iload_n (q := 141) (i := 3) (x := x3) dX13_slip_140 rfl rfl rfl ?_
    refine z_iload (q := 143) (i := 5) (x := x5) dX13_slip_141 rfl rfl ?_
    refine z_iadd (q := 144) dX13_slip_143 rfl ?_
    refine z_iconst (q := 145) (v := 1) dX13_slip_144 rfl rfl ?_
    refine z_isub (q := 146) dX13_slip_145 rfl ?_
    refine z_aload_n (q := 147) (i := 0) (x := a0) dX13_slip_146 rfl rfl rfl ?_
    refine z_get 11 22 (q := 150) (v := .ref (a0 + 16)) rfl (z_lt rfl) (z_L11_T g_1) q1780 dX13_slip_147 rfl (z_fvR (fun _ _ _ => rfl) (z_L11_P22 g_1)) ?_
    refine z_iload_n (q := 151) (i := 3) (x := x3) dX13_slip_150 rfl rfl rfl ?_
    refine z_iload (q := 153) (i := 5) (x := x5) dX13_slip_151 rfl rfl ?_
    refine z_iadd (q := 154) dX13_slip_153 rfl ?_
    obtain ⟨g_5, hf⟩ := hf
    refine z_iald (q := 155) (n := 16560) (z_L11_A22 g_1) g_5 dX13_slip_154 rfl ?_
    obtain ⟨g_6, hf⟩ := hf
    refine z_iast (q := 156) (n := 16560) (z_L11_A22 g_1) g_6 dX13_slip_155 rfl ?_
    refine z_iinc (q := 159) (i := 5) (x := x5) (v := (x5 + 1)) (ls2 := [some (.ref a0), none, some (.int x2), some (.int x3), some (.int x4), some (.int (x5 + 1))]) dX13_slip_156 rfl rfl (z_lt rfl) rfl rfl ?_
    refine z_goto (q := 123) dX13_slip_159 rfl ?_
    exact hf

theorem u_X13_standsAsAlways {l : Launch} {G : z_G} {a0 : Nat} {x1 : Int32} {h : z_H} {Q : z_Q} (hst : l.stackTraces = false)  (hf : z_V l G m_X13_standsAsAlways (z_Fm G m_X13_standsAsAlways Q) 0 0 h 2 [some (.ref a0), some (.int x1), some (.int 0)] []) : z_Ct l G m_X13_standsAsAlways [.ref a0, .int x1] h Q := by
  refine z_Ct.of (ls := [some (.ref a0), some (.int x1), none]) hst rfl (by show plainName yX13_standsAsAlways.cls = true; decide +kernel) (z_le rfl) rfl ?_
  show z_V l G m_X13_standsAsAlways (z_Fm G m_X13_standsAsAlways Q) 0 0 h 0 [some (.ref a0), some (.int x1), none] []
  refine z_iconst (q := 1) (v := 0) dX13_standsAsAlways_0 rfl rfl ?_
  refine z_istore_n (q := 2) (i := 2) (ls2 := [some (.ref a0), some (.int x1), some (.int 0)]) (x := 0) dX13_standsAsAlways_1 rfl (z_lt rfl) rfl rfl ?_
  exact hf

theorem b_X13_standsAsAlways_2 {l : Launch} {G : z_G} {a0 : Nat} {x1 : Int32} {x2 : Int32} {h : z_H} {Q : z_Q}  (hf : (210 ≤ x2 → z_L11 h a0 ∧ vp_in (x1 + 3) 420 ∧ vp_in (x1 + 4) 420 ∧ Q none ((h.sI (a0 + 6) (Int32.toNatClampNeg (x1 + 3)) 1000).sI (a0 + 6) (Int32.toNatClampNeg (x1 + 4)) (-1))) ∧ (¬ 210 ≤ x2 → z_L11 h a0 ∧ vp_in (x1 + x2) 420 ∧ z_V l G m_X13_standsAsAlways (z_Fm G m_X13_standsAsAlways Q) 0 0 (h.sI (a0 + 6) (Int32.toNatClampNeg (x1 + x2)) 0) 2 [some (.ref a0), some (.int x1), some (.int (x2 + 1))] [])) : z_V l G m_X13_standsAsAlways (z_Fm G m_X13_standsAsAlways Q) 0 0 h 2 [some (.ref a0), some (.int x1), some (.int x2)] [] := by
  refine z_iload_n (q := 3) (i := 2) (x := x2) dX13_standsAsAlways_2 rfl rfl rfl ?_
  refine z_sipush (q := 6) (v := 210) dX13_standsAsAlways_3 (by decide) rfl ?_
  refine z_icmp_ge (q := 9) (tgt := 24) dX13_standsAsAlways_6 rfl rfl (fun hc => ?_) (fun hc => ?_)
  · have hf := hf.1 hc
    refine z_aload_n (q := 25) (i := 0) (x := a0) dX13_standsAsAlways_24 rfl rfl rfl ?_
    obtain ⟨g_1, hf⟩ := hf
    refine z_get 11 10 (q := 28) (v := .ref (a0 + 6)) rfl (z_lt rfl) (z_L11_T g_1) q1768 dX13_standsAsAlways_25 rfl (z_fvR (fun _ _ _ => rfl) (z_L11_P10 g_1)) ?_
    refine z_iload_n (q := 29) (i := 1) (x := x1) dX13_standsAsAlways_28 rfl rfl rfl ?_
    refine z_iconst (q := 30) (v := 3) dX13_standsAsAlways_29 rfl rfl ?_
    refine z_iadd (q := 31) dX13_standsAsAlways_30 rfl ?_
    refine z_sipush (q := 34) (v := 1000) dX13_standsAsAlways_31 (by decide) rfl ?_
    obtain ⟨g_2, hf⟩ := hf
    refine z_iast (q := 35) (n := 420) (z_L11_A10 g_1) g_2 dX13_standsAsAlways_34 rfl ?_
    refine z_aload_n (q := 36) (i := 0) (x := a0) dX13_standsAsAlways_35 rfl rfl rfl ?_
    refine z_get 11 10 (q := 39) (v := .ref (a0 + 6)) rfl (z_lt rfl) (z_L11_T g_1) q1768 dX13_standsAsAlways_36 rfl (z_fvR (fun _ _ _ => rfl) (z_L11_P10 g_1)) ?_
    refine z_iload_n (q := 40) (i := 1) (x := x1) dX13_standsAsAlways_39 rfl rfl rfl ?_
    refine z_iconst (q := 41) (v := 4) dX13_standsAsAlways_40 rfl rfl ?_
    refine z_iadd (q := 42) dX13_standsAsAlways_41 rfl ?_
    refine z_iconst (q := 43) (v := (-1)) dX13_standsAsAlways_42 rfl rfl ?_
    obtain ⟨g_3, hf⟩ := hf
    refine z_iast (q := 44) (n := 420) (z_L11_A10 g_1) g_3 dX13_standsAsAlways_43 rfl ?_
    exact z_vret dX13_standsAsAlways_44 rfl hf
  · have hf := hf.2 hc
    refine z_aload_n (q := 10) (i := 0) (x := a0) dX13_standsAsAlways_9 rfl rfl rfl ?_
    obtain ⟨g_4, hf⟩ := hf
    refine z_get 11 10 (q := 13) (v := .ref (a0 + 6)) rfl (z_lt rfl) (z_L11_T g_4) q1768 dX13_standsAsAlways_10 rfl (z_fvR (fun _ _ _ => rfl) (z_L11_P10 g_4)) ?_
    refine z_iload_n (q := 14) (i := 1) (x := x1) dX13_standsAsAlways_13 rfl rfl rfl ?_
    refine z_iload_n (q := 15) (i := 2) (x := x2) dX13_standsAsAlways_14 rfl rfl rfl ?_
    refine z_iadd (q := 16) dX13_standsAsAlways_15 rfl ?_
    refine z_iconst (q := 17) (v := 0) dX13_standsAsAlways_16 rfl rfl ?_
    obtain ⟨g_5, hf⟩ := hf
    refine z_iast (q := 18) (n := 420) (z_L11_A10 g_4) g_5 dX13_standsAsAlways_17 rfl ?_
    refine z_iinc (q := 21) (i := 2) (x := x2) (v := (x2 + 1)) (ls2 := [some (.ref a0), some (.int x1), some (.int (x2 + 1))]) dX13_standsAsAlways_18 rfl rfl (z_lt rfl) rfl rfl ?_
    refine z_goto (q := 2) dX13_standsAsAlways_21 rfl ?_
    exact hf

theorem u_X13_sums {l : Launch} {G : z_G} {d : Nat} {a0 : Nat} {x1 : Int32} {h : z_H} {Q : z_Q} (hst : l.stackTraces = false)  (hf : z_L11 h a0 ∧ z_Ct l G (m_X13_products d) [.ref a0, .int x1] h (z_Qv (fun h_2 => z_V l G (m_X13_sums d) (z_Fm G (m_X13_sums d) Q) 0 0 h_2 5 [some (.ref a0), some (.int x1), none] []))) : z_Ct l G (m_X13_sums d) [.ref a0, .int x1] h Q := by
  refine z_Ct.of (ls := [some (.ref a0), some (.int x1), none]) hst rfl (by show plainName yX13_sums.cls = true; decide +kernel) (z_le rfl) rfl ?_
  show z_V l G (m_X13_sums d) (z_Fm G (m_X13_sums d) Q) 0 0 h 0 [some (.ref a0), some (.int x1), none] []
  refine z_aload_n (q := 1) (i := 0) (x := a0) dX13_sums_0 rfl rfl rfl ?_
  refine z_iload_n (q := 2) (i := 1) (x := x1) dX13_sums_1 rfl rfl rfl ?_
  obtain ⟨g_1, hf⟩ := hf
  refine z_cVv (m_X13_products d) [.int x1] (a0) (q := 5) (rc2 := 0) (rs2 := 0) (st := []) dX13_sums_2 rfl q2018 (oV_X13_products _) rfl rfl (z_room_of (by first | exact z_le rfl | (simp only [z_M.d, z_M.nL, z_M.lo, m_X13_products, m_X13_sums]; omega)) (by first | exact z_le rfl | (simp only [z_M.d, z_M.nL, z_M.lo, m_X13_products, m_X13_sums]; omega))) (z_le rfl) (z_rcv_of 11 rfl (z_L11_T g_1) rfl) rfl  rfl hf (fun h_2 hf => ?_)
  exact hf

theorem b_X13_sums_5 {l : Launch} {G : z_G} {d : Nat} {a0 : Nat} {x1 : Int32} {h : z_H} {Q : z_Q}  (hf : z_L11 h a0 ∧ z_Ct l G m_X13_isSign [.ref a0, .int 43] h (z_Qi (fun x_2 h_3 => (x_2 = 0 → z_L11 h_3 a0 ∧ z_Ct l G m_X13_isSign [.ref a0, .int 45] h_3 (z_Qi (fun x_12 h_13 => (x_12 = 0 → Q none h_13) ∧ (¬ x_12 = 0 → z_L11 h_13 a0 ∧ z_Ct l G m_X13_isSign [.ref a0, .int 43] h_13 (z_Qi (fun x_15 h_16 => z_L11 h_16 a0 ∧ z_Ct l G (m_X13_products d) [.ref a0, .int x1] (h_16.sI a0 7 ((h_16.I a0 7) + 1)) (z_Qv (fun h_18 => z_L11 h_18 a0 ∧ z_Ct l G m_X13_emit [.ref a0, .int (if x_15 = 0 then 5 else 4), .int 0] h_18 (z_Qv (fun h_20 => z_V l G (m_X13_sums d) (z_Fm G (m_X13_sums d) Q) 0 0 h_20 5 [some (.ref a0), some (.int x1), none] [])))))))))) ∧ (¬ x_2 = 0 → z_L11 h_3 a0 ∧ z_Ct l G m_X13_isSign [.ref a0, .int 43] h_3 (z_Qi (fun x_5 h_6 => z_L11 h_6 a0 ∧ z_Ct l G (m_X13_products d) [.ref a0, .int x1] (h_6.sI a0 7 ((h_6.I a0 7) + 1)) (z_Qv (fun h_8 => z_L11 h_8 a0 ∧ z_Ct l G m_X13_emit [.ref a0, .int (if x_5 = 0 then 5 else 4), .int 0] h_8 (z_Qv (fun h_10 => z_V l G (m_X13_sums d) (z_Fm G (m_X13_sums d) Q) 0 0 h_10 5 [some (.ref a0), some (.int x1), none] [])))))))))) : z_V l G (m_X13_sums d) (z_Fm G (m_X13_sums d) Q) 0 0 h 5 [some (.ref a0), some (.int x1), none] [] := by
  refine z_aload_n (q := 6) (i := 0) (x := a0) dX13_sums_5 rfl rfl rfl ?_
  refine z_bipush (q := 8) (v := 43) dX13_sums_6 (by decide) rfl ?_
  obtain ⟨g_1, hf⟩ := hf
  refine z_cVi m_X13_isSign [.int 43] (a0) (q := 11) (rc2 := 0) (rs2 := 0) (st := []) dX13_sums_8 rfl q2026 oV_X13_isSign rfl rfl (z_room_of (by first | exact z_le rfl | (simp only [z_M.d, z_M.nL, z_M.lo, m_X13_isSign, m_X13_sums]; omega)) (by first | exact z_le rfl | (simp only [z_M.d, z_M.nL, z_M.lo, m_X13_isSign, m_X13_sums]; omega))) (z_le rfl) (z_rcv_of 11 rfl (z_L11_T g_1) rfl) rfl  rfl hf (fun x_2 h_3 hf => ?_)
  refine z_if_ne (q := 14) (tgt := 23) dX13_sums_11 rfl rfl (fun hc => ?_) (fun hc => ?_)
  · have hf := hf.2 hc
    refine z_aload_n (q := 24) (i := 0) (x := a0) dX13_sums_23 rfl rfl rfl ?_
    refine z_bipush (q := 26) (v := 43) dX13_sums_24 (by decide) rfl ?_
    obtain ⟨g_4, hf⟩ := hf
    refine z_cVi m_X13_isSign [.int 43] (a0) (q := 29) (rc2 := 0) (rs2 := 0) (st := []) dX13_sums_26 rfl q2026 oV_X13_isSign rfl rfl (z_room_of (by first | exact z_le rfl | (simp only [z_M.d, z_M.nL, z_M.lo, m_X13_isSign, m_X13_sums]; omega)) (by first | exact z_le rfl | (simp only [z_M.d, z_M.nL, z_M.lo, m_X13_isSign, m_X13_sums]; omega))) (z_le rfl) (z_rcv_of 11 rfl (z_L11_T g_4) rfl) rfl  rfl hf (fun x_5 h_6 hf => ?_)
    refine z_istore_n (q := 30) (i := 2) (ls2 := [some (.ref a0), some (.int x1), some (.int x_5)]) (x := x_5) dX13_sums_29 rfl (z_lt rfl) rfl rfl ?_
    refine z_aload_n (q := 31) (i := 0) (x := a0) dX13_sums_30 rfl rfl rfl ?_
    refine z_dup (q := 32) dX13_sums_31 rfl rfl ?_
    obtain ⟨g_7, hf⟩ := hf
    refine z_get 11 7 (q := 35) (v := .int (h_6.I a0 7)) rfl (z_lt rfl) (z_L11_T g_7) q1765 dX13_sums_32 rfl rfl ?_
    refine z_iconst (q := 36) (v := 1) dX13_sums_35 rfl rfl ?_
    refine z_iadd (q := 37) dX13_sums_36 rfl ?_
    refine z_putI 11 7 (q := 40) (x := ((h_6.I a0 7) + 1)) (v := .int ((h_6.I a0 7) + 1)) rfl (z_lt rfl) (z_L11_T g_7) q1765 rfl dX13_sums_37 rfl rfl rfl rfl (fun _ _ _ => rfl) ?_
    refine z_aload_n (q := 41) (i := 0) (x := a0) dX13_sums_40 rfl rfl rfl ?_
    refine z_iload_n (q := 42) (i := 1) (x := x1) dX13_sums_41 rfl rfl rfl ?_
    refine z_cVv (m_X13_products d) [.int x1] (a0) (q := 45) (rc2 := 0) (rs2 := 0) (st := []) dX13_sums_42 rfl q2018 (oV_X13_products _) rfl rfl (z_room_of (by first | exact z_le rfl | (simp only [z_M.d, z_M.nL, z_M.lo, m_X13_products, m_X13_sums]; omega)) (by first | exact z_le rfl | (simp only [z_M.d, z_M.nL, z_M.lo, m_X13_products, m_X13_sums]; omega))) (z_le rfl) (z_rcv_of 11 rfl (z_L11_T g_7) rfl) rfl  rfl hf (fun h_8 hf => ?_)
    refine z_aload_n (q := 46) (i := 0) (x := a0) dX13_sums_45 rfl rfl rfl ?_
    refine z_iload_n (q := 47) (i := 2) (x := x_5) dX13_sums_46 rfl rfl rfl ?_
    have hk : z_V l G (m_X13_sums d) (z_Fm G (m_X13_sums d) Q) 0 0 h_8 55 [some (.ref a0), some (.int x1), some (.int x_5)] [.int (if x_5 = 0 then 5 else 4), .ref a0] := by
      refine z_iconst (q := 56) (v := 0) dX13_sums_55 rfl rfl ?_
      obtain ⟨g_9, hf⟩ := hf
      refine z_cVv m_X13_emit [.int (if x_5 = 0 then 5 else 4), .int 0] (a0) (q := 59) (rc2 := 0) (rs2 := 0) (st := []) dX13_sums_56 rfl q2030 oV_X13_emit rfl rfl (z_room_of (by first | exact z_le rfl | (simp only [z_M.d, z_M.nL, z_M.lo, m_X13_emit, m_X13_sums]; omega)) (by first | exact z_le rfl | (simp only [z_M.d, z_M.nL, z_M.lo, m_X13_emit, m_X13_sums]; omega))) (z_le rfl) (z_rcv_of 11 rfl (z_L11_T g_9) rfl) rfl  rfl hf (fun h_10 hf => ?_)
      refine z_goto (q := 5) dX13_sums_59 rfl ?_
      refine z_prune [true, true, false] (ls2 := [some (.ref a0), some (.int x1), none]) rfl ?_
      exact hf
    refine z_if_eq (q := 50) (tgt := 54) dX13_sums_47 rfl rfl (fun hc => ?_) (fun hc => ?_)
    · have hk := (z_ite hk).1 hc
      refine z_iconst (q := 55) (v := 5) dX13_sums_54 rfl rfl ?_
      exact hk
    · have hk := (z_ite hk).2 hc
      refine z_iconst (q := 51) (v := 4) dX13_sums_50 rfl rfl ?_
      refine z_goto (q := 55) dX13_sums_51 rfl ?_
      exact hk
  · have hf := hf.1 hc
    refine z_aload_n (q := 15) (i := 0) (x := a0) dX13_sums_14 rfl rfl rfl ?_
    refine z_bipush (q := 17) (v := 45) dX13_sums_15 (by decide) rfl ?_
    obtain ⟨g_11, hf⟩ := hf
    refine z_cVi m_X13_isSign [.int 45] (a0) (q := 20) (rc2 := 0) (rs2 := 0) (st := []) dX13_sums_17 rfl q2026 oV_X13_isSign rfl rfl (z_room_of (by first | exact z_le rfl | (simp only [z_M.d, z_M.nL, z_M.lo, m_X13_isSign, m_X13_sums]; omega)) (by first | exact z_le rfl | (simp only [z_M.d, z_M.nL, z_M.lo, m_X13_isSign, m_X13_sums]; omega))) (z_le rfl) (z_rcv_of 11 rfl (z_L11_T g_11) rfl) rfl  rfl hf (fun x_12 h_13 hf => ?_)
    refine z_if_eq (q := 23) (tgt := 62) dX13_sums_20 rfl rfl (fun hc => ?_) (fun hc => ?_)
    · have hf := hf.1 hc
      exact z_vret dX13_sums_62 rfl hf
    · have hf := hf.2 hc
      refine z_aload_n (q := 24) (i := 0) (x := a0) dX13_sums_23 rfl rfl rfl ?_
      refine z_bipush (q := 26) (v := 43) dX13_sums_24 (by decide) rfl ?_
      obtain ⟨g_14, hf⟩ := hf
      refine z_cVi m_X13_isSign [.int 43] (a0) (q := 29) (rc2 := 0) (rs2 := 0) (st := []) dX13_sums_26 rfl q2026 oV_X13_isSign rfl rfl (z_room_of (by first | exact z_le rfl | (simp only [z_M.d, z_M.nL, z_M.lo, m_X13_isSign, m_X13_sums]; omega)) (by first | exact z_le rfl | (simp only [z_M.d, z_M.nL, z_M.lo, m_X13_isSign, m_X13_sums]; omega))) (z_le rfl) (z_rcv_of 11 rfl (z_L11_T g_14) rfl) rfl  rfl hf (fun x_15 h_16 hf => ?_)
      refine z_istore_n (q := 30) (i := 2) (ls2 := [some (.ref a0), some (.int x1), some (.int x_15)]) (x := x_15) dX13_sums_29 rfl (z_lt rfl) rfl rfl ?_
      refine z_aload_n (q := 31) (i := 0) (x := a0) dX13_sums_30 rfl rfl rfl ?_
      refine z_dup (q := 32) dX13_sums_31 rfl rfl ?_
      obtain ⟨g_17, hf⟩ := hf
      refine z_get 11 7 (q := 35) (v := .int (h_16.I a0 7)) rfl (z_lt rfl) (z_L11_T g_17) q1765 dX13_sums_32 rfl rfl ?_
      refine z_iconst (q := 36) (v := 1) dX13_sums_35 rfl rfl ?_
      refine z_iadd (q := 37) dX13_sums_36 rfl ?_
      refine z_putI 11 7 (q := 40) (x := ((h_16.I a0 7) + 1)) (v := .int ((h_16.I a0 7) + 1)) rfl (z_lt rfl) (z_L11_T g_17) q1765 rfl dX13_sums_37 rfl rfl rfl rfl (fun _ _ _ => rfl) ?_
      refine z_aload_n (q := 41) (i := 0) (x := a0) dX13_sums_40 rfl rfl rfl ?_
      refine z_iload_n (q := 42) (i := 1) (x := x1) dX13_sums_41 rfl rfl rfl ?_
      refine z_cVv (m_X13_products d) [.int x1] (a0) (q := 45) (rc2 := 0) (rs2 := 0) (st := []) dX13_sums_42 rfl q2018 (oV_X13_products _) rfl rfl (z_room_of (by first | exact z_le rfl | (simp only [z_M.d, z_M.nL, z_M.lo, m_X13_products, m_X13_sums]; omega)) (by first | exact z_le rfl | (simp only [z_M.d, z_M.nL, z_M.lo, m_X13_products, m_X13_sums]; omega))) (z_le rfl) (z_rcv_of 11 rfl (z_L11_T g_17) rfl) rfl  rfl hf (fun h_18 hf => ?_)
      refine z_aload_n (q := 46) (i := 0) (x := a0) dX13_sums_45 rfl rfl rfl ?_
      refine z_iload_n (q := 47) (i := 2) (x := x_15) dX13_sums_46 rfl rfl rfl ?_
      have hk : z_V l G (m_X13_sums d) (z_Fm G (m_X13_sums d) Q) 0 0 h_18 55 [some (.ref a0), some (.int x1), some (.int x_15)] [.int (if x_15 = 0 then 5 else 4), .ref a0] := by
        refine z_iconst (q := 56) (v := 0) dX13_sums_55 rfl rfl ?_
        obtain ⟨g_19, hf⟩ := hf
        refine z_cVv m_X13_emit [.int (if x_15 = 0 then 5 else 4), .int 0] (a0) (q := 59) (rc2 := 0) (rs2 := 0) (st := []) dX13_sums_56 rfl q2030 oV_X13_emit rfl rfl (z_room_of (by first | exact z_le rfl | (simp only [z_M.d, z_M.nL, z_M.lo, m_X13_emit, m_X13_sums]; omega)) (by first | exact z_le rfl | (simp only [z_M.d, z_M.nL, z_M.lo, m_X13_emit, m_X13_sums]; omega))) (z_le rfl) (z_rcv_of 11 rfl (z_L11_T g_19) rfl) rfl  rfl hf (fun h_20 hf => ?_)
        refine z_goto (q := 5) dX13_sums_59 rfl ?_
        refine z_prune [true, true, false] (ls2 := [some (.ref a0), some (.int x1), none]) rfl ?_
        exact hf
      refine z_if_eq (q := 50) (tgt := 54) dX13_sums_47 rfl rfl (fun hc => ?_) (fun hc => ?_)
      · have hk := (z_ite hk).1 hc
        refine z_iconst (q := 55) (v := 5) dX13_sums_54 rfl rfl ?_
        exact hk
      · have hk := (z_ite hk).2 hc
        refine z_iconst (q := 51) (v := 4) dX13_sums_50 rfl rfl ?_
        refine z_goto (q := 55) dX13_sums_51 rfl ?_
        exact hk

theorem u_X13_swaps {l : Launch} {G : z_G} {a0 : Nat} {x1 : Int32} {x2 : Int32} {h : z_H} {Q : z_Q} (hst : l.stackTraces = false)  (hf : ∃ n_1, h.T a0 = (1, n_1) ∧ vp_in x1 n_1 ∧ ∀ v_4 : Int32, v_4 = (h.I a0 (Int32.toNatClampNeg x1)) → vp_in x2 n_1 ∧ vp_in x1 n_1 ∧ vp_in x2 n_1 ∧ Q none ((h.sI a0 (Int32.toNatClampNeg x1) (h.I a0 (Int32.toNatClampNeg x2))).sI a0 (Int32.toNatClampNeg x2) v_4)) : z_Ct l G m_X13_swaps [.ref a0, .int x1, .int x2] h Q := by
  refine z_Ct.of (ls := [some (.ref a0), some (.int x1), some (.int x2), none]) hst rfl (by show plainName yX13_swaps.cls = true; decide +kernel) (z_le rfl) rfl ?_
  show z_V l G m_X13_swaps (z_Fm G m_X13_swaps Q) 0 0 h 0 [some (.ref a0), some (.int x1), some (.int x2), none] []
  refine z_aload_n (q := 1) (i := 0) (x := a0) dX13_swaps_0 rfl rfl rfl ?_
  refine z_iload_n (q := 2) (i := 1) (x := x1) dX13_swaps_1 rfl rfl rfl ?_
  obtain ⟨n_1, g_2, hf⟩ := hf
  obtain ⟨g_3, hf⟩ := hf
  refine z_iald (q := 3) (n := n_1) g_2 g_3 dX13_swaps_2 rfl ?_
  refine z_nmI (fun v_4 hv_5 => ?_)
  have hf := hf v_4 hv_5
  refine z_istore_n (q := 4) (i := 3) (ls2 := [some (.ref a0), some (.int x1), some (.int x2), some (.int v_4)]) (x := v_4) dX13_swaps_3 rfl (z_lt rfl) rfl rfl ?_
  refine z_aload_n (q := 5) (i := 0) (x := a0) dX13_swaps_4 rfl rfl rfl ?_
  refine z_iload_n (q := 6) (i := 1) (x := x1) dX13_swaps_5 rfl rfl rfl ?_
  refine z_aload_n (q := 7) (i := 0) (x := a0) dX13_swaps_6 rfl rfl rfl ?_
  refine z_iload_n (q := 8) (i := 2) (x := x2) dX13_swaps_7 rfl rfl rfl ?_
  obtain ⟨g_6, hf⟩ := hf
  refine z_iald (q := 9) (n := n_1) g_2 g_6 dX13_swaps_8 rfl ?_
  obtain ⟨g_7, hf⟩ := hf
  refine z_iast (q := 10) (n := n_1) g_2 g_7 dX13_swaps_9 rfl ?_
  refine z_aload_n (q := 11) (i := 0) (x := a0) dX13_swaps_10 rfl rfl rfl ?_
  refine z_iload_n (q := 12) (i := 2) (x := x2) dX13_swaps_11 rfl rfl rfl ?_
  refine z_iload_n (q := 13) (i := 3) (x := v_4) dX13_swaps_12 rfl rfl rfl ?_
  obtain ⟨g_8, hf⟩ := hf
  refine z_iast (q := 14) (n := n_1) g_2 g_8 dX13_swaps_13 rfl ?_
  exact z_vret dX13_swaps_14 rfl hf

theorem u_X13_table {l : Launch} {G : z_G} {a0 : Nat} {h : z_H} {Q : z_Q} (hst : l.stackTraces = false)  (hf : z_L11 h a0 ∧ z_Ct l G m_X13_cutAll [.ref a0] (h.sI a0 0 0) (z_Qv (fun h_2 => z_L11 h_2 a0 ∧ z_Ct l G m_X13_standsAsAlways [.ref a0, .int 210] ((h_2.sI a0 13 0).sI a0 16 0) (z_Qv (fun h_4 => z_V l G m_X13_table (z_Fm G m_X13_table Q) 0 0 h_4 26 [some (.ref a0), none] []))))) : z_Ct l G m_X13_table [.ref a0] h Q := by
  refine z_Ct.of (ls := [some (.ref a0), none]) hst rfl (by show plainName yX13_table.cls = true; decide +kernel) (z_le rfl) rfl ?_
  show z_V l G m_X13_table (z_Fm G m_X13_table Q) 0 0 h 0 [some (.ref a0), none] []
  refine z_aload_n (q := 1) (i := 0) (x := a0) dX13_table_0 rfl rfl rfl ?_
  refine z_iconst (q := 2) (v := 0) dX13_table_1 rfl rfl ?_
  obtain ⟨g_1, hf⟩ := hf
  refine z_putI 11 0 (q := 5) (x := 0) (v := .int 0) rfl (z_lt rfl) (z_L11_T g_1) q1758 rfl dX13_table_2 rfl rfl rfl rfl (fun _ _ _ => rfl) ?_
  refine z_aload_n (q := 6) (i := 0) (x := a0) dX13_table_5 rfl rfl rfl ?_
  refine z_cVv m_X13_cutAll [] (a0) (q := 9) (rc2 := 0) (rs2 := 0) (st := []) dX13_table_6 rfl q1931 oV_X13_cutAll rfl rfl ⟨z_le rfl, z_le rfl⟩ (z_le rfl) (z_rcv_of 11 rfl (z_L11_T g_1) rfl) rfl  rfl hf (fun h_2 hf => ?_)
  refine z_aload_n (q := 10) (i := 0) (x := a0) dX13_table_9 rfl rfl rfl ?_
  refine z_iconst (q := 11) (v := 0) dX13_table_10 rfl rfl ?_
  obtain ⟨g_3, hf⟩ := hf
  refine z_putI 11 13 (q := 14) (x := 0) (v := .int 0) rfl (z_lt rfl) (z_L11_T g_3) q1771 rfl dX13_table_11 rfl rfl rfl rfl (fun _ _ _ => rfl) ?_
  refine z_aload_n (q := 15) (i := 0) (x := a0) dX13_table_14 rfl rfl rfl ?_
  refine z_iconst (q := 16) (v := 0) dX13_table_15 rfl rfl ?_
  refine z_putI 11 16 (q := 19) (x := 0) (v := .int 0) rfl (z_lt rfl) (z_L11_T g_3) q1774 rfl dX13_table_16 rfl rfl rfl rfl (fun _ _ _ => rfl) ?_
  refine z_aload_n (q := 20) (i := 0) (x := a0) dX13_table_19 rfl rfl rfl ?_
  refine z_sipush (q := 23) (v := 210) dX13_table_20 (by decide) rfl ?_
  refine z_cVv m_X13_standsAsAlways [.int 210] (a0) (q := 26) (rc2 := 0) (rs2 := 0) (st := []) dX13_table_23 rfl q1750 oV_X13_standsAsAlways rfl rfl ⟨z_le rfl, z_le rfl⟩ (z_le rfl) (z_rcv_of 11 rfl (z_L11_T g_3) rfl) rfl  rfl hf (fun h_4 hf => ?_)
  exact hf

theorem b_X13_table_26 {l : Launch} {G : z_G} {a0 : Nat} {h : z_H} {Q : z_Q}  (hf : z_L11 h a0 ∧ ((h.I a0 8) = 0 → vp_in (h.I a0 7) 1002 ∧ ((h.I (a0 + 2) (Int32.toNatClampNeg (h.I a0 7))) = 0 → ((h.I a0 8) ≤ 0 → z_V l G m_X13_table (z_Fm G m_X13_table Q) 0 0 h 72 [some (.ref a0), some (.int 0)] []) ∧ (¬ (h.I a0 8) ≤ 0 → Q (some (.int (h.I a0 8))) h)) ∧ (¬ (h.I (a0 + 2) (Int32.toNatClampNeg (h.I a0 7))) = 0 → z_Ct l G m_X13_readLine [.ref a0] h (z_Qv (fun h_3 => z_L11 h_3 a0 ∧ z_Ct l G m_X13_takeSign [.ref a0, .int 59] h_3 (z_Qv (fun h_5 => z_V l G m_X13_table (z_Fm G m_X13_table Q) 0 0 h_5 26 [some (.ref a0), none] [])))))) ∧ (¬ (h.I a0 8) = 0 → ((h.I a0 8) ≤ 0 → z_V l G m_X13_table (z_Fm G m_X13_table Q) 0 0 h 72 [some (.ref a0), some (.int 0)] []) ∧ (¬ (h.I a0 8) ≤ 0 → Q (some (.int (h.I a0 8))) h))) : z_V l G m_X13_table (z_Fm G m_X13_table Q) 0 0 h 26 [some (.ref a0), none] [] := by
  refine z_aload_n (q := 27) (i := 0) (x := a0) dX13_table_26 rfl rfl rfl ?_
  obtain ⟨g_1, hf⟩ := hf
  refine z_get 11 8 (q := 30) (v := .int (h.I a0 8)) rfl (z_lt rfl) (z_L11_T g_1) q1766 dX13_table_27 rfl rfl ?_
  refine z_if_ne (q := 33) (tgt := 58) dX13_table_30 rfl rfl (fun hc => ?_) (fun hc => ?_)
  · have hf := hf.2 hc
    refine z_aload_n (q := 59) (i := 0) (x := a0) dX13_table_58 rfl rfl rfl ?_
    refine z_get 11 8 (q := 62) (v := .int (h.I a0 8)) rfl (z_lt rfl) (z_L11_T g_1) q1766 dX13_table_59 rfl rfl ?_
    refine z_if_le (q := 65) (tgt := 70) dX13_table_62 rfl rfl (fun hc => ?_) (fun hc => ?_)
    · have hf := hf.1 hc
      refine z_iconst (q := 71) (v := 0) dX13_table_70 rfl rfl ?_
      refine z_istore_n (q := 72) (i := 1) (ls2 := [some (.ref a0), some (.int 0)]) (x := 0) dX13_table_71 rfl (z_lt rfl) rfl rfl ?_
      exact hf
    · have hf := hf.2 hc
      refine z_aload_n (q := 66) (i := 0) (x := a0) dX13_table_65 rfl rfl rfl ?_
      refine z_get 11 8 (q := 69) (v := .int (h.I a0 8)) rfl (z_lt rfl) (z_L11_T g_1) q1766 dX13_table_66 rfl rfl ?_
      exact z_iret dX13_table_69 rfl hf
  · have hf := hf.1 hc
    refine z_aload_n (q := 34) (i := 0) (x := a0) dX13_table_33 rfl rfl rfl ?_
    refine z_get 11 4 (q := 37) (v := .ref (a0 + 2)) rfl (z_lt rfl) (z_L11_T g_1) q1762 dX13_table_34 rfl (z_fvR (fun _ _ _ => rfl) (z_L11_P4 g_1)) ?_
    refine z_aload_n (q := 38) (i := 0) (x := a0) dX13_table_37 rfl rfl rfl ?_
    refine z_get 11 7 (q := 41) (v := .int (h.I a0 7)) rfl (z_lt rfl) (z_L11_T g_1) q1765 dX13_table_38 rfl rfl ?_
    obtain ⟨g_2, hf⟩ := hf
    refine z_iald (q := 42) (n := 1002) (z_L11_A4 g_1) g_2 dX13_table_41 rfl ?_
    refine z_if_eq (q := 45) (tgt := 58) dX13_table_42 rfl rfl (fun hc => ?_) (fun hc => ?_)
    · have hf := hf.1 hc
      refine z_aload_n (q := 59) (i := 0) (x := a0) dX13_table_58 rfl rfl rfl ?_
      refine z_get 11 8 (q := 62) (v := .int (h.I a0 8)) rfl (z_lt rfl) (z_L11_T g_1) q1766 dX13_table_59 rfl rfl ?_
      refine z_if_le (q := 65) (tgt := 70) dX13_table_62 rfl rfl (fun hc => ?_) (fun hc => ?_)
      · have hf := hf.1 hc
        refine z_iconst (q := 71) (v := 0) dX13_table_70 rfl rfl ?_
        refine z_istore_n (q := 72) (i := 1) (ls2 := [some (.ref a0), some (.int 0)]) (x := 0) dX13_table_71 rfl (z_lt rfl) rfl rfl ?_
        exact hf
      · have hf := hf.2 hc
        refine z_aload_n (q := 66) (i := 0) (x := a0) dX13_table_65 rfl rfl rfl ?_
        refine z_get 11 8 (q := 69) (v := .int (h.I a0 8)) rfl (z_lt rfl) (z_L11_T g_1) q1766 dX13_table_66 rfl rfl ?_
        exact z_iret dX13_table_69 rfl hf
    · have hf := hf.2 hc
      refine z_aload_n (q := 46) (i := 0) (x := a0) dX13_table_45 rfl rfl rfl ?_
      refine z_cVv m_X13_readLine [] (a0) (q := 49) (rc2 := 0) (rs2 := 0) (st := []) dX13_table_46 rfl q1950 oV_X13_readLine rfl rfl ⟨z_le rfl, z_le rfl⟩ (z_le rfl) (z_rcv_of 11 rfl (z_L11_T g_1) rfl) rfl  rfl hf (fun h_3 hf => ?_)
      refine z_aload_n (q := 50) (i := 0) (x := a0) dX13_table_49 rfl rfl rfl ?_
      refine z_bipush (q := 52) (v := 59) dX13_table_50 (by decide) rfl ?_
      obtain ⟨g_4, hf⟩ := hf
      refine z_cVv m_X13_takeSign [.int 59] (a0) (q := 55) (rc2 := 0) (rs2 := 0) (st := []) dX13_table_52 rfl q2038 oV_X13_takeSign rfl rfl ⟨z_le rfl, z_le rfl⟩ (z_le rfl) (z_rcv_of 11 rfl (z_L11_T g_4) rfl) rfl  rfl hf (fun h_5 hf => ?_)
      refine z_goto (q := 26) dX13_table_55 rfl ?_
      exact hf

theorem b_X13_table_72 {l : Launch} {G : z_G} {a0 : Nat} {x1 : Int32} {h : z_H} {Q : z_Q}  (hf : (210 ≤ x1 → z_V l G m_X13_table (z_Fm G m_X13_table Q) 0 0 h 103 [some (.ref a0), some (.int 0)] []) ∧ (¬ 210 ≤ x1 → z_L11 h a0 ∧ vp_in (210 + x1) 420 ∧ vp_in x1 420 ∧ z_V l G m_X13_table (z_Fm G m_X13_table Q) 0 0 (h.sI (a0 + 6) (Int32.toNatClampNeg x1) (h.I (a0 + 6) (Int32.toNatClampNeg (210 + x1)))) 72 [some (.ref a0), some (.int (x1 + 1))] [])) : z_V l G m_X13_table (z_Fm G m_X13_table Q) 0 0 h 72 [some (.ref a0), some (.int x1)] [] := by
  refine z_iload_n (q := 73) (i := 1) (x := x1) dX13_table_72 rfl rfl rfl ?_
  refine z_sipush (q := 76) (v := 210) dX13_table_73 (by decide) rfl ?_
  refine z_icmp_ge (q := 79) (tgt := 101) dX13_table_76 rfl rfl (fun hc => ?_) (fun hc => ?_)
  · have hf := hf.1 hc
    refine z_iconst (q := 102) (v := 0) dX13_table_101 rfl rfl ?_
    refine z_istore_n (q := 103) (i := 1) (ls2 := [some (.ref a0), some (.int 0)]) (x := 0) dX13_table_102 rfl (z_lt rfl) rfl rfl ?_
    exact hf
  · have hf := hf.2 hc
    refine z_aload_n (q := 80) (i := 0) (x := a0) dX13_table_79 rfl rfl rfl ?_
    obtain ⟨g_1, hf⟩ := hf
    refine z_get 11 10 (q := 83) (v := .ref (a0 + 6)) rfl (z_lt rfl) (z_L11_T g_1) q1768 dX13_table_80 rfl (z_fvR (fun _ _ _ => rfl) (z_L11_P10 g_1)) ?_
    refine z_iload_n (q := 84) (i := 1) (x := x1) dX13_table_83 rfl rfl rfl ?_
    refine z_aload_n (q := 85) (i := 0) (x := a0) dX13_table_84 rfl rfl rfl ?_
    refine z_get 11 10 (q := 88) (v := .ref (a0 + 6)) rfl (z_lt rfl) (z_L11_T g_1) q1768 dX13_table_85 rfl (z_fvR (fun _ _ _ => rfl) (z_L11_P10 g_1)) ?_
    refine z_sipush (q := 91) (v := 210) dX13_table_88 (by decide) rfl ?_
    refine z_iload_n (q := 92) (i := 1) (x := x1) dX13_table_91 rfl rfl rfl ?_
    refine z_iadd (q := 93) dX13_table_92 rfl ?_
    obtain ⟨g_2, hf⟩ := hf
    refine z_iald (q := 94) (n := 420) (z_L11_A10 g_1) g_2 dX13_table_93 rfl ?_
    obtain ⟨g_3, hf⟩ := hf
    refine z_iast (q := 95) (n := 420) (z_L11_A10 g_1) g_3 dX13_table_94 rfl ?_
    refine z_iinc (q := 98) (i := 1) (x := x1) (v := (x1 + 1)) (ls2 := [some (.ref a0), some (.int (x1 + 1))]) dX13_table_95 rfl rfl (z_lt rfl) rfl rfl ?_
    refine z_goto (q := 72) dX13_table_98 rfl ?_
    exact hf

theorem b_X13_table_103 {l : Launch} {G : z_G} {a0 : Nat} {x1 : Int32} {h : z_H} {Q : z_Q}  (hf : (8 ≤ x1 → z_V l G m_X13_table (z_Fm G m_X13_table Q) 0 0 h 129 [some (.ref a0), some (.int 0)] []) ∧ (¬ 8 ≤ x1 → z_L11 h a0 ∧ vp_in x1 8 ∧ vp_in x1 8 ∧ z_V l G m_X13_table (z_Fm G m_X13_table Q) 0 0 (h.sL (a0 + 9) (Int32.toNatClampNeg x1) (h.L (a0 + 10) (Int32.toNatClampNeg x1))) 103 [some (.ref a0), some (.int (x1 + 1))] [])) : z_V l G m_X13_table (z_Fm G m_X13_table Q) 0 0 h 103 [some (.ref a0), some (.int x1)] [] := by
  refine z_iload_n (q := 104) (i := 1) (x := x1) dX13_table_103 rfl rfl rfl ?_
  refine z_bipush (q := 106) (v := 8) dX13_table_104 (by decide) rfl ?_
  refine z_icmp_ge (q := 109) (tgt := 127) dX13_table_106 rfl rfl (fun hc => ?_) (fun hc => ?_)
  · have hf := hf.1 hc
    refine z_iconst (q := 128) (v := 0) dX13_table_127 rfl rfl ?_
    refine z_istore_n (q := 129) (i := 1) (ls2 := [some (.ref a0), some (.int 0)]) (x := 0) dX13_table_128 rfl (z_lt rfl) rfl rfl ?_
    exact hf
  · have hf := hf.2 hc
    refine z_aload_n (q := 110) (i := 0) (x := a0) dX13_table_109 rfl rfl rfl ?_
    obtain ⟨g_1, hf⟩ := hf
    refine z_get 11 14 (q := 113) (v := .ref (a0 + 9)) rfl (z_lt rfl) (z_L11_T g_1) q1772 dX13_table_110 rfl (z_fvR (fun _ _ _ => rfl) (z_L11_P14 g_1)) ?_
    refine z_iload_n (q := 114) (i := 1) (x := x1) dX13_table_113 rfl rfl rfl ?_
    refine z_aload_n (q := 115) (i := 0) (x := a0) dX13_table_114 rfl rfl rfl ?_
    refine z_get 11 15 (q := 118) (v := .ref (a0 + 10)) rfl (z_lt rfl) (z_L11_T g_1) q1773 dX13_table_115 rfl (z_fvR (fun _ _ _ => rfl) (z_L11_P15 g_1)) ?_
    refine z_iload_n (q := 119) (i := 1) (x := x1) dX13_table_118 rfl rfl rfl ?_
    obtain ⟨g_2, hf⟩ := hf
    refine z_lald (q := 120) (n := 8) (z_L11_A15 g_1) g_2 dX13_table_119 rfl ?_
    obtain ⟨g_3, hf⟩ := hf
    refine z_last (q := 121) (n := 8) (z_L11_A14 g_1) g_3 dX13_table_120 rfl ?_
    refine z_iinc (q := 124) (i := 1) (x := x1) (v := (x1 + 1)) (ls2 := [some (.ref a0), some (.int (x1 + 1))]) dX13_table_121 rfl rfl (z_lt rfl) rfl rfl ?_
    refine z_goto (q := 103) dX13_table_124 rfl ?_
    exact hf

theorem b_X13_table_129 {l : Launch} {G : z_G} {a0 : Nat} {x1 : Int32} {h : z_H} {Q : z_Q}  (hf : z_L11 h a0 ∧ ((h.I a0 13) ≤ x1 → z_V l G m_X13_table (z_Fm G m_X13_table Q) 0 0 h 177 [some (.ref a0), some (.int 0)] []) ∧ (¬ (h.I a0 13) ≤ x1 → vp_in (1100 + x1) 2200 ∧ vp_in x1 2200 ∧ vp_in (1100 + x1) 2200 ∧ vp_in x1 2200 ∧ z_V l G m_X13_table (z_Fm G m_X13_table Q) 0 0 ((h.sI (a0 + 7) (Int32.toNatClampNeg x1) (h.I (a0 + 7) (Int32.toNatClampNeg (1100 + x1)))).sI (a0 + 8) (Int32.toNatClampNeg x1) (h.I (a0 + 8) (Int32.toNatClampNeg (1100 + x1)))) 129 [some (.ref a0), some (.int (x1 + 1))] [])) : z_V l G m_X13_table (z_Fm G m_X13_table Q) 0 0 h 129 [some (.ref a0), some (.int x1)] [] := by
  refine z_iload_n (q := 130) (i := 1) (x := x1) dX13_table_129 rfl rfl rfl ?_
  refine z_aload_n (q := 131) (i := 0) (x := a0) dX13_table_130 rfl rfl rfl ?_
  obtain ⟨g_1, hf⟩ := hf
  refine z_get 11 13 (q := 134) (v := .int (h.I a0 13)) rfl (z_lt rfl) (z_L11_T g_1) q1771 dX13_table_131 rfl rfl ?_
  refine z_icmp_ge (q := 137) (tgt := 175) dX13_table_134 rfl rfl (fun hc => ?_) (fun hc => ?_)
  · have hf := hf.1 hc
    refine z_iconst (q := 176) (v := 0) dX13_table_175 rfl rfl ?_
    refine z_istore_n (q := 177) (i := 1) (ls2 := [some (.ref a0), some (.int 0)]) (x := 0) dX13_table_176 rfl (z_lt rfl) rfl rfl ?_
    exact hf
  · have hf := hf.2 hc
    refine z_aload_n (q := 138) (i := 0) (x := a0) dX13_table_137 rfl rfl rfl ?_
    refine z_get 11 11 (q := 141) (v := .ref (a0 + 7)) rfl (z_lt rfl) (z_L11_T g_1) q1769 dX13_table_138 rfl (z_fvR (fun _ _ _ => rfl) (z_L11_P11 g_1)) ?_
    refine z_iload_n (q := 142) (i := 1) (x := x1) dX13_table_141 rfl rfl rfl ?_
    refine z_aload_n (q := 143) (i := 0) (x := a0) dX13_table_142 rfl rfl rfl ?_
    refine z_get 11 11 (q := 146) (v := .ref (a0 + 7)) rfl (z_lt rfl) (z_L11_T g_1) q1769 dX13_table_143 rfl (z_fvR (fun _ _ _ => rfl) (z_L11_P11 g_1)) ?_
    refine z_sipush (q := 149) (v := 1100) dX13_table_146 (by decide) rfl ?_
    refine z_iload_n (q := 150) (i := 1) (x := x1) dX13_table_149 rfl rfl rfl ?_
    refine z_iadd (q := 151) dX13_table_150 rfl ?_
    obtain ⟨g_2, hf⟩ := hf
    refine z_iald (q := 152) (n := 2200) (z_L11_A11 g_1) g_2 dX13_table_151 rfl ?_
    obtain ⟨g_3, hf⟩ := hf
    refine z_iast (q := 153) (n := 2200) (z_L11_A11 g_1) g_3 dX13_table_152 rfl ?_
    refine z_aload_n (q := 154) (i := 0) (x := a0) dX13_table_153 rfl rfl rfl ?_
    refine z_get 11 12 (q := 157) (v := .ref (a0 + 8)) rfl (z_lt rfl) (z_L11_T g_1) q1770 dX13_table_154 rfl (z_fvR (fun _ _ _ => rfl) (z_L11_P12 g_1)) ?_
    refine z_iload_n (q := 158) (i := 1) (x := x1) dX13_table_157 rfl rfl rfl ?_
    refine z_aload_n (q := 159) (i := 0) (x := a0) dX13_table_158 rfl rfl rfl ?_
    refine z_get 11 12 (q := 162) (v := .ref (a0 + 8)) rfl (z_lt rfl) (z_L11_T g_1) q1770 dX13_table_159 rfl (z_fvR (fun _ _ _ => rfl) (z_L11_P12 g_1)) ?_
    refine z_sipush (q := 165) (v := 1100) dX13_table_162 (by decide) rfl ?_
    refine z_iload_n (q := 166) (i := 1) (x := x1) dX13_table_165 rfl rfl rfl ?_
    refine z_iadd (q := 167) dX13_table_166 rfl ?_
    obtain ⟨g_4, hf⟩ := hf
    refine z_iald (q := 168) (n := 2200) (z_L11_A12 g_1) g_4 dX13_table_167 rfl ?_
    refine z_topI (z_rIa (by omega)) ?_
    obtain ⟨g_5, hf⟩ := hf
    refine z_iast (q := 169) (n := 2200) (z_L11_A12 g_1) g_5 dX13_table_168 rfl ?_
    refine z_iinc (q := 172) (i := 1) (x := x1) (v := (x1 + 1)) (ls2 := [some (.ref a0), some (.int (x1 + 1))]) dX13_table_169 rfl rfl (z_lt rfl) rfl rfl ?_
    refine z_goto (q := 129) dX13_table_172 rfl ?_
    exact hf

theorem b_X13_table_177 {l : Launch} {G : z_G} {a0 : Nat} {x1 : Int32} {h : z_H} {Q : z_Q}  (hf : (4 ≤ x1 → z_L11 h a0 ∧ vp_in 15 16560 ∧ vp_in 16 16560 ∧ vp_in 17 16560 ∧ z_Ct l G m_X13_begins [.ref a0, .int 0] (((h.sI (a0 + 16) (Int32.toNatClampNeg 15) 0).sI (a0 + 16) (Int32.toNatClampNeg 16) 0).sI (a0 + 16) (Int32.toNatClampNeg 17) 0) (z_Qv (fun h_5 => z_L11 h_5 a0 ∧ Q (some (.int 0)) ((h_5.sI a0 23 0).sI a0 45 0)))) ∧ (¬ 4 ≤ x1 → z_L11 h a0 ∧ vp_in x1 4 ∧ z_V l G m_X13_table (z_Fm G m_X13_table Q) 0 0 (h.sI (a0 + 17) (Int32.toNatClampNeg x1) 0) 177 [some (.ref a0), some (.int (x1 + 1))] [])) : z_V l G m_X13_table (z_Fm G m_X13_table Q) 0 0 h 177 [some (.ref a0), some (.int x1)] [] := by
  refine z_iload_n (q := 178) (i := 1) (x := x1) dX13_table_177 rfl rfl rfl ?_
  refine z_iconst (q := 179) (v := 4) dX13_table_178 rfl rfl ?_
  refine z_icmp_ge (q := 182) (tgt := 195) dX13_table_179 rfl rfl (fun hc => ?_) (fun hc => ?_)
  · have hf := hf.1 hc
    refine z_aload_n (q := 196) (i := 0) (x := a0) dX13_table_195 rfl rfl rfl ?_
    obtain ⟨g_1, hf⟩ := hf
    refine z_get 11 22 (q := 199) (v := .ref (a0 + 16)) rfl (z_lt rfl) (z_L11_T g_1) q1780 dX13_table_196 rfl (z_fvR (fun _ _ _ => rfl) (z_L11_P22 g_1)) ?_
    refine z_bipush (q := 201) (v := 15) dX13_table_199 (by decide) rfl ?_
    refine z_iconst (q := 202) (v := 0) dX13_table_201 rfl rfl ?_
    obtain ⟨g_2, hf⟩ := hf
    refine z_iast (q := 203) (n := 16560) (z_L11_A22 g_1) g_2 dX13_table_202 rfl ?_
    refine z_aload_n (q := 204) (i := 0) (x := a0) dX13_table_203 rfl rfl rfl ?_
    refine z_get 11 22 (q := 207) (v := .ref (a0 + 16)) rfl (z_lt rfl) (z_L11_T g_1) q1780 dX13_table_204 rfl (z_fvR (fun _ _ _ => rfl) (z_L11_P22 g_1)) ?_
    refine z_bipush (q := 209) (v := 16) dX13_table_207 (by decide) rfl ?_
    refine z_iconst (q := 210) (v := 0) dX13_table_209 rfl rfl ?_
    obtain ⟨g_3, hf⟩ := hf
    refine z_iast (q := 211) (n := 16560) (z_L11_A22 g_1) g_3 dX13_table_210 rfl ?_
    refine z_aload_n (q := 212) (i := 0) (x := a0) dX13_table_211 rfl rfl rfl ?_
    refine z_get 11 22 (q := 215) (v := .ref (a0 + 16)) rfl (z_lt rfl) (z_L11_T g_1) q1780 dX13_table_212 rfl (z_fvR (fun _ _ _ => rfl) (z_L11_P22 g_1)) ?_
    refine z_bipush (q := 217) (v := 17) dX13_table_215 (by decide) rfl ?_
    refine z_iconst (q := 218) (v := 0) dX13_table_217 rfl rfl ?_
    obtain ⟨g_4, hf⟩ := hf
    refine z_iast (q := 219) (n := 16560) (z_L11_A22 g_1) g_4 dX13_table_218 rfl ?_
    refine z_aload_n (q := 220) (i := 0) (x := a0) dX13_table_219 rfl rfl rfl ?_
    refine z_iconst (q := 221) (v := 0) dX13_table_220 rfl rfl ?_
    refine z_cVv m_X13_begins [.int 0] (a0) (q := 224) (rc2 := 0) (rs2 := 0) (st := []) dX13_table_221 rfl q1754 oV_X13_begins rfl rfl ⟨z_le rfl, z_le rfl⟩ (z_le rfl) (z_rcv_of 11 rfl (z_L11_T g_1) rfl) rfl  rfl hf (fun h_5 hf => ?_)
    refine z_aload_n (q := 225) (i := 0) (x := a0) dX13_table_224 rfl rfl rfl ?_
    refine z_iconst (q := 226) (v := 0) dX13_table_225 rfl rfl ?_
    obtain ⟨g_6, hf⟩ := hf
    refine z_putI 11 23 (q := 229) (x := 0) (v := .int 0) rfl (z_lt rfl) (z_L11_T g_6) q1781 rfl dX13_table_226 rfl rfl rfl rfl (fun _ _ _ => rfl) ?_
    refine z_aload_n (q := 230) (i := 0) (x := a0) dX13_table_229 rfl rfl rfl ?_
    refine z_iconst (q := 231) (v := 0) dX13_table_230 rfl rfl ?_
    refine z_putI 11 45 (q := 234) (x := 0) (v := .int 0) rfl (z_lt rfl) (z_L11_T g_6) q1803 rfl dX13_table_231 rfl rfl rfl rfl (fun _ _ _ => rfl) ?_
    refine z_iconst (q := 235) (v := 0) dX13_table_234 rfl rfl ?_
    exact z_iret dX13_table_235 rfl hf
  · have hf := hf.2 hc
    refine z_aload_n (q := 183) (i := 0) (x := a0) dX13_table_182 rfl rfl rfl ?_
    obtain ⟨g_7, hf⟩ := hf
    refine z_get 11 24 (q := 186) (v := .ref (a0 + 17)) rfl (z_lt rfl) (z_L11_T g_7) q1782 dX13_table_183 rfl (z_fvR (fun _ _ _ => rfl) (z_L11_P24 g_7)) ?_
    refine z_iload_n (q := 187) (i := 1) (x := x1) dX13_table_186 rfl rfl rfl ?_
    refine z_iconst (q := 188) (v := 0) dX13_table_187 rfl rfl ?_
    obtain ⟨g_8, hf⟩ := hf
    refine z_zast (q := 189) (n := 4) (y := 0) (z_L11_A24 g_7) g_8 rfl dX13_table_188 rfl ?_
    refine z_iinc (q := 192) (i := 1) (x := x1) (v := (x1 + 1)) (ls2 := [some (.ref a0), some (.int (x1 + 1))]) dX13_table_189 rfl rfl (z_lt rfl) rfl rfl ?_
    refine z_goto (q := 177) dX13_table_192 rfl ?_
    exact hf

theorem u_X13_take {l : Launch} {G : z_G} {a0 : Nat} {x1 : Int32} {h : z_H} {Q : z_Q} (hst : l.stackTraces = false)  (hf : z_L11 h a0 ∧ z_Ct l G m_X13_isSide [.int x1] (h.sI a0 0 0) (z_Qi (fun x_2 h_3 => (x_2 = 0 → Q (some (.int (-1))) h_3) ∧ (¬ x_2 = 0 → z_L11 h_3 a0 ∧ z_Ct l G m_X13_findOdds [.ref a0] h_3 (z_Qi (fun x_5 h_6 => (x_5 = 0 → Q (some (.int (-1))) h_6) ∧ (¬ x_5 = 0 → z_L11 h_6 a0 ∧ ∀ v_8 : Int32, v_8 = (if x1 = 0 then (h_6.I a0 49) else (h_6.I a0 50)) → z_Ct l G m_X13_offerNow [.ref a0] h_6 (z_Qi (fun x_10 h_11 => z_L11 h_11 a0 ∧ Q (some (.int (if (v_8 * x_10) ≤ (((h_11.I a0 51) - v_8) * 10) then 0 else 1))) h_11))))))))) : z_Ct l G m_X13_take [.ref a0, .int x1] h Q := by
  refine z_Ct.of (ls := [some (.ref a0), some (.int x1), none]) hst rfl (by show plainName yX13_take.cls = true; decide +kernel) (z_le rfl) rfl ?_
  show z_V l G m_X13_take (z_Fm G m_X13_take Q) 0 0 h 0 [some (.ref a0), some (.int x1), none] []
  refine z_aload_n (q := 1) (i := 0) (x := a0) dX13_take_0 rfl rfl rfl ?_
  refine z_iconst (q := 2) (v := 0) dX13_take_1 rfl rfl ?_
  obtain ⟨g_1, hf⟩ := hf
  refine z_putI 11 0 (q := 5) (x := 0) (v := .int 0) rfl (z_lt rfl) (z_L11_T g_1) q1758 rfl dX13_take_2 rfl rfl rfl rfl (fun _ _ _ => rfl) ?_
  refine z_iload_n (q := 6) (i := 1) (x := x1) dX13_take_5 rfl rfl rfl ?_
  refine z_cSi m_X13_isSide [.int x1] (q := 9) (rc2 := 0) (rs2 := 0) (st := []) dX13_take_6 rfl q2085 oS_X13_isSide rfl rfl ⟨z_le rfl, z_le rfl⟩ (z_le rfl) rfl  rfl hf (fun x_2 h_3 hf => ?_)
  refine z_if_eq (q := 12) (tgt := 19) dX13_take_9 rfl rfl (fun hc => ?_) (fun hc => ?_)
  · have hf := hf.1 hc
    refine z_iconst (q := 20) (v := (-1)) dX13_take_19 rfl rfl ?_
    exact z_iret dX13_take_20 rfl hf
  · have hf := hf.2 hc
    refine z_aload_n (q := 13) (i := 0) (x := a0) dX13_take_12 rfl rfl rfl ?_
    obtain ⟨g_4, hf⟩ := hf
    refine z_cVi m_X13_findOdds [] (a0) (q := 16) (rc2 := 0) (rs2 := 0) (st := []) dX13_take_13 rfl q2246 oV_X13_findOdds rfl rfl ⟨z_le rfl, z_le rfl⟩ (z_le rfl) (z_rcv_of 11 rfl (z_L11_T g_4) rfl) rfl  rfl hf (fun x_5 h_6 hf => ?_)
    refine z_if_ne (q := 19) (tgt := 21) dX13_take_16 rfl rfl (fun hc => ?_) (fun hc => ?_)
    · have hf := hf.2 hc
      refine z_iload_n (q := 22) (i := 1) (x := x1) dX13_take_21 rfl rfl rfl ?_
      obtain ⟨g_7, hf⟩ := hf
      have hk : z_V l G m_X13_take (z_Fm G m_X13_take Q) 0 0 h_6 36 [some (.ref a0), some (.int x1), none] [.int (if x1 = 0 then (h_6.I a0 49) else (h_6.I a0 50))] := by
        refine z_nmI (fun v_8 hv_9 => ?_)
        have hf := hf v_8 hv_9
        refine z_istore_n (q := 37) (i := 2) (ls2 := [some (.ref a0), some (.int x1), some (.int v_8)]) (x := v_8) dX13_take_36 rfl (z_lt rfl) rfl rfl ?_
        refine z_iload_n (q := 38) (i := 2) (x := v_8) dX13_take_37 rfl rfl rfl ?_
        refine z_aload_n (q := 39) (i := 0) (x := a0) dX13_take_38 rfl rfl rfl ?_
        refine z_cVi m_X13_offerNow [] (a0) (q := 42) (rc2 := 0) (rs2 := 0) (st := [.int v_8]) dX13_take_39 rfl q2258 oV_X13_offerNow rfl rfl ⟨z_le rfl, z_le rfl⟩ (z_le rfl) (z_rcv_of 11 rfl (z_L11_T g_7) rfl) rfl  rfl hf (fun x_10 h_11 hf => ?_)
        refine z_imul (q := 43) dX13_take_42 rfl ?_
        refine z_aload_n (q := 44) (i := 0) (x := a0) dX13_take_43 rfl rfl rfl ?_
        obtain ⟨g_12, hf⟩ := hf
        refine z_get 11 51 (q := 47) (v := .int (h_11.I a0 51)) rfl (z_lt rfl) (z_L11_T g_12) q1809 dX13_take_44 rfl rfl ?_
        refine z_iload_n (q := 48) (i := 2) (x := v_8) dX13_take_47 rfl rfl rfl ?_
        refine z_isub (q := 49) dX13_take_48 rfl ?_
        refine z_bipush (q := 51) (v := 10) dX13_take_49 (by decide) rfl ?_
        refine z_imul (q := 52) dX13_take_51 rfl ?_
        have hk : z_V l G m_X13_take (z_Fm G m_X13_take Q) 0 0 h_11 60 [some (.ref a0), some (.int x1), some (.int v_8)] [.int (if (v_8 * x_10) ≤ (((h_11.I a0 51) - v_8) * 10) then 0 else 1)] := by
          exact z_iret dX13_take_60 rfl hf
        refine z_icmp_le (q := 55) (tgt := 59) dX13_take_52 rfl rfl (fun hc => ?_) (fun hc => ?_)
        · have hk := (z_ite hk).1 hc
          refine z_iconst (q := 60) (v := 0) dX13_take_59 rfl rfl ?_
          exact hk
        · have hk := (z_ite hk).2 hc
          refine z_iconst (q := 56) (v := 1) dX13_take_55 rfl rfl ?_
          refine z_goto (q := 60) dX13_take_56 rfl ?_
          exact hk
      refine z_if_ne (q := 25) (tgt := 32) dX13_take_22 rfl rfl (fun hc => ?_) (fun hc => ?_)
      · have hk := (z_ite hk).2 hc
        refine z_aload_n (q := 33) (i := 0) (x := a0) dX13_take_32 rfl rfl rfl ?_
        refine z_get 11 50 (q := 36) (v := .int (h_6.I a0 50)) rfl (z_lt rfl) (z_L11_T g_7) q1808 dX13_take_33 rfl rfl ?_
        exact hk
      · have hk := (z_ite hk).1 hc
        refine z_aload_n (q := 26) (i := 0) (x := a0) dX13_take_25 rfl rfl rfl ?_
        refine z_get 11 49 (q := 29) (v := .int (h_6.I a0 49)) rfl (z_lt rfl) (z_L11_T g_7) q1807 dX13_take_26 rfl rfl ?_
        refine z_goto (q := 36) dX13_take_29 rfl ?_
        exact hk
    · have hf := hf.1 hc
      refine z_iconst (q := 20) (v := (-1)) dX13_take_19 rfl rfl ?_
      exact z_iret dX13_take_20 rfl hf

theorem u_X13_takeNumber {l : Launch} {G : z_G} {a0 : Nat} {x1 : Int32} {x2 : Int32} {h : z_H} {Q : z_Q} (hst : l.stackTraces = false)  (hf : z_L11 h a0 ∧ ((h.I a0 8) = 0 → vp_in (h.I a0 7) 1002 ∧ ((h.I (a0 + 2) (Int32.toNatClampNeg (h.I a0 7))) = 2 → z_V l G m_X13_takeNumber (z_Fm G m_X13_takeNumber Q) 0 0 h 28 [some (.ref a0), some (.int x1), some (.int x2)] []) ∧ (¬ (h.I (a0 + 2) (Int32.toNatClampNeg (h.I a0 7))) = 2 → z_Ct l G m_X13_wrong [.ref a0, .int 1] h (z_Qv (fun h_3 => z_V l G m_X13_takeNumber (z_Fm G m_X13_takeNumber Q) 0 0 h_3 70 [some (.ref a0), none, none] [])))) ∧ (¬ (h.I a0 8) = 0 → z_V l G m_X13_takeNumber (z_Fm G m_X13_takeNumber Q) 0 0 h 28 [some (.ref a0), some (.int x1), some (.int x2)] [])) : z_Ct l G m_X13_takeNumber [.ref a0, .int x1, .int x2] h Q := by
  refine z_Ct.of (ls := [some (.ref a0), some (.int x1), some (.int x2)]) hst rfl (by show plainName yX13_takeNumber.cls = true; decide +kernel) (z_le rfl) rfl ?_
  show z_V l G m_X13_takeNumber (z_Fm G m_X13_takeNumber Q) 0 0 h 0 [some (.ref a0), some (.int x1), some (.int x2)] []
  refine z_aload_n (q := 1) (i := 0) (x := a0) dX13_takeNumber_0 rfl rfl rfl ?_
  obtain ⟨g_1, hf⟩ := hf
  refine z_get 11 8 (q := 4) (v := .int (h.I a0 8)) rfl (z_lt rfl) (z_L11_T g_1) q1766 dX13_takeNumber_1 rfl rfl ?_
  refine z_if_ne (q := 7) (tgt := 28) dX13_takeNumber_4 rfl rfl (fun hc => ?_) (fun hc => ?_)
  · have hf := hf.2 hc
    exact hf
  · have hf := hf.1 hc
    refine z_aload_n (q := 8) (i := 0) (x := a0) dX13_takeNumber_7 rfl rfl rfl ?_
    refine z_get 11 4 (q := 11) (v := .ref (a0 + 2)) rfl (z_lt rfl) (z_L11_T g_1) q1762 dX13_takeNumber_8 rfl (z_fvR (fun _ _ _ => rfl) (z_L11_P4 g_1)) ?_
    refine z_aload_n (q := 12) (i := 0) (x := a0) dX13_takeNumber_11 rfl rfl rfl ?_
    refine z_get 11 7 (q := 15) (v := .int (h.I a0 7)) rfl (z_lt rfl) (z_L11_T g_1) q1765 dX13_takeNumber_12 rfl rfl ?_
    obtain ⟨g_2, hf⟩ := hf
    refine z_iald (q := 16) (n := 1002) (z_L11_A4 g_1) g_2 dX13_takeNumber_15 rfl ?_
    refine z_iconst (q := 17) (v := 2) dX13_takeNumber_16 rfl rfl ?_
    refine z_icmp_eq (q := 20) (tgt := 28) dX13_takeNumber_17 rfl rfl (fun hc => ?_) (fun hc => ?_)
    · have hf := hf.1 hc
      exact hf
    · have hf := hf.2 hc
      refine z_aload_n (q := 21) (i := 0) (x := a0) dX13_takeNumber_20 rfl rfl rfl ?_
      refine z_iconst (q := 22) (v := 1) dX13_takeNumber_21 rfl rfl ?_
      refine z_cVv m_X13_wrong [.int 1] (a0) (q := 25) (rc2 := 0) (rs2 := 0) (st := []) dX13_takeNumber_22 rfl q1962 oV_X13_wrong rfl rfl ⟨z_le rfl, z_le rfl⟩ (z_le rfl) (z_rcv_of 11 rfl (z_L11_T g_1) rfl) rfl  rfl hf (fun h_3 hf => ?_)
      refine z_goto (q := 70) dX13_takeNumber_25 rfl ?_
      refine z_prune [true, false, false] (ls2 := [some (.ref a0), none, none]) rfl ?_
      exact hf

theorem b_X13_takeNumber_28 {l : Launch} {G : z_G} {a0 : Nat} {x1 : Int32} {x2 : Int32} {h : z_H} {Q : z_Q}  (hf : z_L11 h a0 ∧ ((h.I a0 8) = 0 → vp_in (h.I a0 7) 1002 ∧ ((lg_cmp (h.L (a0 + 4) (Int32.toNatClampNeg (h.I a0 7))) (Int32.toInt64 x1)) < 0 → z_Ct l G m_X13_wrong [.ref a0, .int 4] h (z_Qv (fun h_3 => z_V l G m_X13_takeNumber (z_Fm G m_X13_takeNumber Q) 0 0 h_3 70 [some (.ref a0), none, none] []))) ∧ (¬ (lg_cmp (h.L (a0 + 4) (Int32.toNatClampNeg (h.I a0 7))) (Int32.toInt64 x1)) < 0 → vp_in (h.I a0 7) 1002 ∧ ((lg_cmp (h.L (a0 + 4) (Int32.toNatClampNeg (h.I a0 7))) (Int32.toInt64 x2)) ≤ 0 → z_V l G m_X13_takeNumber (z_Fm G m_X13_takeNumber Q) 0 0 h 70 [some (.ref a0), none, none] []) ∧ (¬ (lg_cmp (h.L (a0 + 4) (Int32.toNatClampNeg (h.I a0 7))) (Int32.toInt64 x2)) ≤ 0 → z_Ct l G m_X13_wrong [.ref a0, .int 4] h (z_Qv (fun h_5 => z_V l G m_X13_takeNumber (z_Fm G m_X13_takeNumber Q) 0 0 h_5 70 [some (.ref a0), none, none] []))))) ∧ (¬ (h.I a0 8) = 0 → z_V l G m_X13_takeNumber (z_Fm G m_X13_takeNumber Q) 0 0 h 70 [some (.ref a0), none, none] [])) : z_V l G m_X13_takeNumber (z_Fm G m_X13_takeNumber Q) 0 0 h 28 [some (.ref a0), some (.int x1), some (.int x2)] [] := by
  refine z_aload_n (q := 29) (i := 0) (x := a0) dX13_takeNumber_28 rfl rfl rfl ?_
  obtain ⟨g_1, hf⟩ := hf
  refine z_get 11 8 (q := 32) (v := .int (h.I a0 8)) rfl (z_lt rfl) (z_L11_T g_1) q1766 dX13_takeNumber_29 rfl rfl ?_
  refine z_if_ne (q := 35) (tgt := 70) dX13_takeNumber_32 rfl rfl (fun hc => ?_) (fun hc => ?_)
  · have hf := hf.2 hc
    refine z_prune [true, false, false] (ls2 := [some (.ref a0), none, none]) rfl ?_
    exact hf
  · have hf := hf.1 hc
    refine z_aload_n (q := 36) (i := 0) (x := a0) dX13_takeNumber_35 rfl rfl rfl ?_
    refine z_get 11 6 (q := 39) (v := .ref (a0 + 4)) rfl (z_lt rfl) (z_L11_T g_1) q1764 dX13_takeNumber_36 rfl (z_fvR (fun _ _ _ => rfl) (z_L11_P6 g_1)) ?_
    refine z_aload_n (q := 40) (i := 0) (x := a0) dX13_takeNumber_39 rfl rfl rfl ?_
    refine z_get 11 7 (q := 43) (v := .int (h.I a0 7)) rfl (z_lt rfl) (z_L11_T g_1) q1765 dX13_takeNumber_40 rfl rfl ?_
    obtain ⟨g_2, hf⟩ := hf
    refine z_lald (q := 44) (n := 1002) (z_L11_A6 g_1) g_2 dX13_takeNumber_43 rfl ?_
    refine z_iload_n (q := 45) (i := 1) (x := x1) dX13_takeNumber_44 rfl rfl rfl ?_
    refine z_i2l (q := 46) dX13_takeNumber_45 rfl ?_
    refine z_lcmp (q := 47) dX13_takeNumber_46 rfl ?_
    refine z_if_lt (q := 50) (tgt := 65) dX13_takeNumber_47 rfl rfl (fun hc => ?_) (fun hc => ?_)
    · have hf := hf.1 hc
      refine z_aload_n (q := 66) (i := 0) (x := a0) dX13_takeNumber_65 rfl rfl rfl ?_
      refine z_iconst (q := 67) (v := 4) dX13_takeNumber_66 rfl rfl ?_
      refine z_cVv m_X13_wrong [.int 4] (a0) (q := 70) (rc2 := 0) (rs2 := 0) (st := []) dX13_takeNumber_67 rfl q1962 oV_X13_wrong rfl rfl ⟨z_le rfl, z_le rfl⟩ (z_le rfl) (z_rcv_of 11 rfl (z_L11_T g_1) rfl) rfl  rfl hf (fun h_3 hf => ?_)
      refine z_prune [true, false, false] (ls2 := [some (.ref a0), none, none]) rfl ?_
      exact hf
    · have hf := hf.2 hc
      refine z_aload_n (q := 51) (i := 0) (x := a0) dX13_takeNumber_50 rfl rfl rfl ?_
      refine z_get 11 6 (q := 54) (v := .ref (a0 + 4)) rfl (z_lt rfl) (z_L11_T g_1) q1764 dX13_takeNumber_51 rfl (z_fvR (fun _ _ _ => rfl) (z_L11_P6 g_1)) ?_
      refine z_aload_n (q := 55) (i := 0) (x := a0) dX13_takeNumber_54 rfl rfl rfl ?_
      refine z_get 11 7 (q := 58) (v := .int (h.I a0 7)) rfl (z_lt rfl) (z_L11_T g_1) q1765 dX13_takeNumber_55 rfl rfl ?_
      obtain ⟨g_4, hf⟩ := hf
      refine z_lald (q := 59) (n := 1002) (z_L11_A6 g_1) g_4 dX13_takeNumber_58 rfl ?_
      refine z_iload_n (q := 60) (i := 2) (x := x2) dX13_takeNumber_59 rfl rfl rfl ?_
      refine z_i2l (q := 61) dX13_takeNumber_60 rfl ?_
      refine z_lcmp (q := 62) dX13_takeNumber_61 rfl ?_
      refine z_if_le (q := 65) (tgt := 70) dX13_takeNumber_62 rfl rfl (fun hc => ?_) (fun hc => ?_)
      · have hf := hf.1 hc
        refine z_prune [true, false, false] (ls2 := [some (.ref a0), none, none]) rfl ?_
        exact hf
      · have hf := hf.2 hc
        refine z_aload_n (q := 66) (i := 0) (x := a0) dX13_takeNumber_65 rfl rfl rfl ?_
        refine z_iconst (q := 67) (v := 4) dX13_takeNumber_66 rfl rfl ?_
        refine z_cVv m_X13_wrong [.int 4] (a0) (q := 70) (rc2 := 0) (rs2 := 0) (st := []) dX13_takeNumber_67 rfl q1962 oV_X13_wrong rfl rfl ⟨z_le rfl, z_le rfl⟩ (z_le rfl) (z_rcv_of 11 rfl (z_L11_T g_1) rfl) rfl  rfl hf (fun h_5 hf => ?_)
        refine z_prune [true, false, false] (ls2 := [some (.ref a0), none, none]) rfl ?_
        exact hf

theorem b_X13_takeNumber_70 {l : Launch} {G : z_G} {a0 : Nat} {h : z_H} {Q : z_Q}  (hf : z_L11 h a0 ∧ ((h.I a0 8) ≤ 0 → vp_in (((h.I a0 7) + 1) - 1) 1002 ∧ Q (some (.int (Int64.toInt32 (h.L (a0 + 4) (Int32.toNatClampNeg (((h.I a0 7) + 1) - 1)))))) (h.sI a0 7 ((h.I a0 7) + 1))) ∧ (¬ (h.I a0 8) ≤ 0 → Q (some (.int 0)) h)) : z_V l G m_X13_takeNumber (z_Fm G m_X13_takeNumber Q) 0 0 h 70 [some (.ref a0), none, none] [] := by
  refine z_aload_n (q := 71) (i := 0) (x := a0) dX13_takeNumber_70 rfl rfl rfl ?_
  obtain ⟨g_1, hf⟩ := hf
  refine z_get 11 8 (q := 74) (v := .int (h.I a0 8)) rfl (z_lt rfl) (z_L11_T g_1) q1766 dX13_takeNumber_71 rfl rfl ?_
  refine z_if_le (q := 77) (tgt := 79) dX13_takeNumber_74 rfl rfl (fun hc => ?_) (fun hc => ?_)
  · have hf := hf.1 hc
    refine z_aload_n (q := 80) (i := 0) (x := a0) dX13_takeNumber_79 rfl rfl rfl ?_
    refine z_dup (q := 81) dX13_takeNumber_80 rfl rfl ?_
    refine z_get 11 7 (q := 84) (v := .int (h.I a0 7)) rfl (z_lt rfl) (z_L11_T g_1) q1765 dX13_takeNumber_81 rfl rfl ?_
    refine z_iconst (q := 85) (v := 1) dX13_takeNumber_84 rfl rfl ?_
    refine z_iadd (q := 86) dX13_takeNumber_85 rfl ?_
    refine z_putI 11 7 (q := 89) (x := ((h.I a0 7) + 1)) (v := .int ((h.I a0 7) + 1)) rfl (z_lt rfl) (z_L11_T g_1) q1765 rfl dX13_takeNumber_86 rfl rfl rfl rfl (fun _ _ _ => rfl) ?_
    refine z_aload_n (q := 90) (i := 0) (x := a0) dX13_takeNumber_89 rfl rfl rfl ?_
    refine z_get 11 6 (q := 93) (v := .ref (a0 + 4)) rfl (z_lt rfl) (z_L11_T g_1) q1764 dX13_takeNumber_90 rfl (z_fvR (fun _ _ _ => rfl) (z_L11_P6 g_1)) ?_
    refine z_aload_n (q := 94) (i := 0) (x := a0) dX13_takeNumber_93 rfl rfl rfl ?_
    refine z_get 11 7 (q := 97) (v := .int ((h.I a0 7) + 1)) rfl (z_lt rfl) (z_L11_T g_1) q1765 dX13_takeNumber_94 rfl (congrArg Value.int z_rIs) ?_
    refine z_iconst (q := 98) (v := 1) dX13_takeNumber_97 rfl rfl ?_
    refine z_isub (q := 99) dX13_takeNumber_98 rfl ?_
    obtain ⟨g_2, hf⟩ := hf
    refine z_lald (q := 100) (n := 1002) (z_L11_A6 g_1) g_2 dX13_takeNumber_99 rfl ?_
    refine z_l2i (q := 101) dX13_takeNumber_100 rfl ?_
    exact z_iret dX13_takeNumber_101 rfl hf
  · have hf := hf.2 hc
    refine z_iconst (q := 78) (v := 0) dX13_takeNumber_77 rfl rfl ?_
    exact z_iret dX13_takeNumber_78 rfl hf

theorem u_X13_takeOne {l : Launch} {G : z_G} {a0 : Nat} {x1 : Int32} {x2 : Int32} {h : z_H} {Q : z_Q} (hst : l.stackTraces = false)  (hf : z_L11 h a0 ∧ z_Ct l G m_X13_wordHere [.ref a0, .int x1, .int x2] h (z_Qi (fun x_2 h_3 => (0 ≤ x_2 → z_L11 h_3 a0 ∧ Q (some (.int x_2)) (h_3.sI a0 7 ((h_3.I a0 7) + (if (h_3.I a0 8) ≤ 0 then 1 else 0)))) ∧ (¬ 0 ≤ x_2 → z_L11 h_3 a0 ∧ z_Ct l G m_X13_wrong [.ref a0, .int 1] h_3 (z_Qv (fun h_6 => z_L11 h_6 a0 ∧ Q (some (.int x_2)) (h_6.sI a0 7 ((h_6.I a0 7) + (if (h_6.I a0 8) ≤ 0 then 1 else 0))))))))) : z_Ct l G m_X13_takeOne [.ref a0, .int x1, .int x2] h Q := by
  refine z_Ct.of (ls := [some (.ref a0), some (.int x1), some (.int x2), none]) hst rfl (by show plainName yX13_takeOne.cls = true; decide +kernel) (z_le rfl) rfl ?_
  show z_V l G m_X13_takeOne (z_Fm G m_X13_takeOne Q) 0 0 h 0 [some (.ref a0), some (.int x1), some (.int x2), none] []
  refine z_aload_n (q := 1) (i := 0) (x := a0) dX13_takeOne_0 rfl rfl rfl ?_
  refine z_iload_n (q := 2) (i := 1) (x := x1) dX13_takeOne_1 rfl rfl rfl ?_
  refine z_iload_n (q := 3) (i := 2) (x := x2) dX13_takeOne_2 rfl rfl rfl ?_
  obtain ⟨g_1, hf⟩ := hf
  refine z_cVi m_X13_wordHere [.int x1, .int x2] (a0) (q := 6) (rc2 := 0) (rs2 := 0) (st := []) dX13_takeOne_3 rfl q1998 oV_X13_wordHere rfl rfl ⟨z_le rfl, z_le rfl⟩ (z_le rfl) (z_rcv_of 11 rfl (z_L11_T g_1) rfl) rfl  rfl hf (fun x_2 h_3 hf => ?_)
  refine z_istore_n (q := 7) (i := 3) (ls2 := [some (.ref a0), some (.int x1), some (.int x2), some (.int x_2)]) (x := x_2) dX13_takeOne_6 rfl (z_lt rfl) rfl rfl ?_
  refine z_iload_n (q := 8) (i := 3) (x := x_2) dX13_takeOne_7 rfl rfl rfl ?_
  refine z_if_ge (q := 11) (tgt := 16) dX13_takeOne_8 rfl rfl (fun hc => ?_) (fun hc => ?_)
  · have hf := hf.1 hc
    refine z_aload_n (q := 17) (i := 0) (x := a0) dX13_takeOne_16 rfl rfl rfl ?_
    refine z_dup (q := 18) dX13_takeOne_17 rfl rfl ?_
    obtain ⟨g_4, hf⟩ := hf
    refine z_get 11 7 (q := 21) (v := .int (h_3.I a0 7)) rfl (z_lt rfl) (z_L11_T g_4) q1765 dX13_takeOne_18 rfl rfl ?_
    refine z_aload_n (q := 22) (i := 0) (x := a0) dX13_takeOne_21 rfl rfl rfl ?_
    refine z_get 11 8 (q := 25) (v := .int (h_3.I a0 8)) rfl (z_lt rfl) (z_L11_T g_4) q1766 dX13_takeOne_22 rfl rfl ?_
    have hk : z_V l G m_X13_takeOne (z_Fm G m_X13_takeOne Q) 0 0 h_3 33 [some (.ref a0), some (.int x1), some (.int x2), some (.int x_2)] [.int (if (h_3.I a0 8) ≤ 0 then 1 else 0), .int (h_3.I a0 7), .ref a0] := by
      refine z_iadd (q := 34) dX13_takeOne_33 rfl ?_
      refine z_putI 11 7 (q := 37) (x := ((h_3.I a0 7) + (if (h_3.I a0 8) ≤ 0 then 1 else 0))) (v := .int ((h_3.I a0 7) + (if (h_3.I a0 8) ≤ 0 then 1 else 0))) rfl (z_lt rfl) (z_L11_T g_4) q1765 rfl dX13_takeOne_34 rfl rfl rfl rfl (fun _ _ _ => rfl) ?_
      refine z_iload_n (q := 38) (i := 3) (x := x_2) dX13_takeOne_37 rfl rfl rfl ?_
      exact z_iret dX13_takeOne_38 rfl hf
    refine z_if_le (q := 28) (tgt := 32) dX13_takeOne_25 rfl rfl (fun hc => ?_) (fun hc => ?_)
    · have hk := (z_ite hk).1 hc
      refine z_iconst (q := 33) (v := 1) dX13_takeOne_32 rfl rfl ?_
      exact hk
    · have hk := (z_ite hk).2 hc
      refine z_iconst (q := 29) (v := 0) dX13_takeOne_28 rfl rfl ?_
      refine z_goto (q := 33) dX13_takeOne_29 rfl ?_
      exact hk
  · have hf := hf.2 hc
    refine z_aload_n (q := 12) (i := 0) (x := a0) dX13_takeOne_11 rfl rfl rfl ?_
    refine z_iconst (q := 13) (v := 1) dX13_takeOne_12 rfl rfl ?_
    obtain ⟨g_5, hf⟩ := hf
    refine z_cVv m_X13_wrong [.int 1] (a0) (q := 16) (rc2 := 0) (rs2 := 0) (st := []) dX13_takeOne_13 rfl q1962 oV_X13_wrong rfl rfl ⟨z_le rfl, z_le rfl⟩ (z_le rfl) (z_rcv_of 11 rfl (z_L11_T g_5) rfl) rfl  rfl hf (fun h_6 hf => ?_)
    refine z_aload_n (q := 17) (i := 0) (x := a0) dX13_takeOne_16 rfl rfl rfl ?_
    refine z_dup (q := 18) dX13_takeOne_17 rfl rfl ?_
    obtain ⟨g_7, hf⟩ := hf
    refine z_get 11 7 (q := 21) (v := .int (h_6.I a0 7)) rfl (z_lt rfl) (z_L11_T g_7) q1765 dX13_takeOne_18 rfl rfl ?_
    refine z_aload_n (q := 22) (i := 0) (x := a0) dX13_takeOne_21 rfl rfl rfl ?_
    refine z_get 11 8 (q := 25) (v := .int (h_6.I a0 8)) rfl (z_lt rfl) (z_L11_T g_7) q1766 dX13_takeOne_22 rfl rfl ?_
    have hk : z_V l G m_X13_takeOne (z_Fm G m_X13_takeOne Q) 0 0 h_6 33 [some (.ref a0), some (.int x1), some (.int x2), some (.int x_2)] [.int (if (h_6.I a0 8) ≤ 0 then 1 else 0), .int (h_6.I a0 7), .ref a0] := by
      refine z_iadd (q := 34) dX13_takeOne_33 rfl ?_
      refine z_putI 11 7 (q := 37) (x := ((h_6.I a0 7) + (if (h_6.I a0 8) ≤ 0 then 1 else 0))) (v := .int ((h_6.I a0 7) + (if (h_6.I a0 8) ≤ 0 then 1 else 0))) rfl (z_lt rfl) (z_L11_T g_7) q1765 rfl dX13_takeOne_34 rfl rfl rfl rfl (fun _ _ _ => rfl) ?_
      refine z_iload_n (q := 38) (i := 3) (x := x_2) dX13_takeOne_37 rfl rfl rfl ?_
      exact z_iret dX13_takeOne_38 rfl hf
    refine z_if_le (q := 28) (tgt := 32) dX13_takeOne_25 rfl rfl (fun hc => ?_) (fun hc => ?_)
    · have hk := (z_ite hk).1 hc
      refine z_iconst (q := 33) (v := 1) dX13_takeOne_32 rfl rfl ?_
      exact hk
    · have hk := (z_ite hk).2 hc
      refine z_iconst (q := 29) (v := 0) dX13_takeOne_28 rfl rfl ?_
      refine z_goto (q := 33) dX13_takeOne_29 rfl ?_
      exact hk

theorem u_X13_takePart {l : Launch} {G : z_G} {d : Nat} {a0 : Nat} {x1 : Int32} {h : z_H} {Q : z_Q} (hst : l.stackTraces = false)  (hf : z_L11 h a0 ∧ ((h.I a0 8) ≤ 0 → vp_in (h.I a0 7) 1002 ∧ ∀ v_3 : Int32, v_3 = (if (h.I (a0 + 2) (Int32.toNatClampNeg (h.I a0 7))) = 2 then 1 else 0) → z_Ct l G m_X13_wordHere [.ref a0, .int 20, .int 4] h (z_Qi (fun x_5 h_6 => (0 ≤ x_5 → z_V l G (m_X13_takePart (d + 1)) (z_Fm G (m_X13_takePart (d + 1)) Q) 0 0 h_6 69 [some (.ref a0), some (.int x1), some (.int v_3), some (.int x_5)] []) ∧ (¬ 0 ≤ x_5 → (v_3 = 0 → z_L11 h_6 a0 ∧ z_Ct l G m_X13_isSign [.ref a0, .int 40] h_6 (z_Qi (fun x_8 h_9 => (x_8 = 0 → z_L11 h_9 a0 ∧ z_Ct l G m_X13_isWord [.ref a0, .int 17] h_9 (z_Qi (fun x_11 h_12 => (x_11 = 0 → z_L11 h_12 a0 ∧ z_Ct l G m_X13_wrong [.ref a0, .int 1] h_12 (z_Qv (fun h_14 => z_V l G (m_X13_takePart (d + 1)) (z_Fm G (m_X13_takePart (d + 1)) Q) 0 0 h_14 79 [some (.ref a0), some (.int x1), some (.int v_3), some (.int x_5)] []))) ∧ (¬ x_11 = 0 → z_V l G (m_X13_takePart (d + 1)) (z_Fm G (m_X13_takePart (d + 1)) Q) 0 0 h_12 69 [some (.ref a0), some (.int x1), some (.int v_3), some (.int x_5)] [])))) ∧ (¬ x_8 = 0 → z_V l G (m_X13_takePart (d + 1)) (z_Fm G (m_X13_takePart (d + 1)) Q) 0 0 h_9 69 [some (.ref a0), some (.int x1), some (.int v_3), some (.int x_5)] [])))) ∧ (¬ v_3 = 0 → z_V l G (m_X13_takePart (d + 1)) (z_Fm G (m_X13_takePart (d + 1)) Q) 0 0 h_6 69 [some (.ref a0), some (.int x1), some (.int v_3), some (.int x_5)] []))))) ∧ (¬ (h.I a0 8) ≤ 0 → Q none h)) : z_Ct l G (m_X13_takePart (d + 1)) [.ref a0, .int x1] h Q := by
  refine z_Ct.of (ls := [some (.ref a0), some (.int x1), none, none]) hst rfl (by show plainName yX13_takePart.cls = true; decide +kernel) (z_le rfl) rfl ?_
  show z_V l G (m_X13_takePart (d + 1)) (z_Fm G (m_X13_takePart (d + 1)) Q) 0 0 h 0 [some (.ref a0), some (.int x1), none, none] []
  refine z_aload_n (q := 1) (i := 0) (x := a0) dX13_takePart_0 rfl rfl rfl ?_
  obtain ⟨g_1, hf⟩ := hf
  refine z_get 11 8 (q := 4) (v := .int (h.I a0 8)) rfl (z_lt rfl) (z_L11_T g_1) q1766 dX13_takePart_1 rfl rfl ?_
  refine z_if_le (q := 7) (tgt := 8) dX13_takePart_4 rfl rfl (fun hc => ?_) (fun hc => ?_)
  · have hf := hf.1 hc
    refine z_aload_n (q := 9) (i := 0) (x := a0) dX13_takePart_8 rfl rfl rfl ?_
    refine z_get 11 4 (q := 12) (v := .ref (a0 + 2)) rfl (z_lt rfl) (z_L11_T g_1) q1762 dX13_takePart_9 rfl (z_fvR (fun _ _ _ => rfl) (z_L11_P4 g_1)) ?_
    refine z_aload_n (q := 13) (i := 0) (x := a0) dX13_takePart_12 rfl rfl rfl ?_
    refine z_get 11 7 (q := 16) (v := .int (h.I a0 7)) rfl (z_lt rfl) (z_L11_T g_1) q1765 dX13_takePart_13 rfl rfl ?_
    obtain ⟨g_2, hf⟩ := hf
    refine z_iald (q := 17) (n := 1002) (z_L11_A4 g_1) g_2 dX13_takePart_16 rfl ?_
    refine z_iconst (q := 18) (v := 2) dX13_takePart_17 rfl rfl ?_
    have hk : z_V l G (m_X13_takePart (d + 1)) (z_Fm G (m_X13_takePart (d + 1)) Q) 0 0 h 26 [some (.ref a0), some (.int x1), none, none] [.int (if (h.I (a0 + 2) (Int32.toNatClampNeg (h.I a0 7))) = 2 then 1 else 0)] := by
      refine z_nmI (fun v_3 hv_4 => ?_)
      have hf := hf v_3 hv_4
      refine z_istore_n (q := 27) (i := 2) (ls2 := [some (.ref a0), some (.int x1), some (.int v_3), none]) (x := v_3) dX13_takePart_26 rfl (z_lt rfl) rfl rfl ?_
      refine z_aload_n (q := 28) (i := 0) (x := a0) dX13_takePart_27 rfl rfl rfl ?_
      refine z_bipush (q := 30) (v := 20) dX13_takePart_28 (by decide) rfl ?_
      refine z_iconst (q := 31) (v := 4) dX13_takePart_30 rfl rfl ?_
      refine z_cVi m_X13_wordHere [.int 20, .int 4] (a0) (q := 34) (rc2 := 0) (rs2 := 0) (st := []) dX13_takePart_31 rfl q1998 oV_X13_wordHere rfl rfl (z_room_of (by first | exact z_le rfl | (simp only [z_M.d, z_M.nL, z_M.lo, m_X13_wordHere, m_X13_takePart]; omega)) (by first | exact z_le rfl | (simp only [z_M.d, z_M.nL, z_M.lo, m_X13_wordHere, m_X13_takePart]; omega))) (z_le rfl) (z_rcv_of 11 rfl (z_L11_T g_1) rfl) rfl  rfl hf (fun x_5 h_6 hf => ?_)
      refine z_istore_n (q := 35) (i := 3) (ls2 := [some (.ref a0), some (.int x1), some (.int v_3), some (.int x_5)]) (x := x_5) dX13_takePart_34 rfl (z_lt rfl) rfl rfl ?_
      refine z_iload_n (q := 36) (i := 3) (x := x_5) dX13_takePart_35 rfl rfl rfl ?_
      refine z_if_ge (q := 39) (tgt := 69) dX13_takePart_36 rfl rfl (fun hc => ?_) (fun hc => ?_)
      · have hf := hf.1 hc
        exact hf
      · have hf := hf.2 hc
        refine z_iload_n (q := 40) (i := 2) (x := v_3) dX13_takePart_39 rfl rfl rfl ?_
        refine z_if_ne (q := 43) (tgt := 69) dX13_takePart_40 rfl rfl (fun hc => ?_) (fun hc => ?_)
        · have hf := hf.2 hc
          exact hf
        · have hf := hf.1 hc
          refine z_aload_n (q := 44) (i := 0) (x := a0) dX13_takePart_43 rfl rfl rfl ?_
          refine z_bipush (q := 46) (v := 40) dX13_takePart_44 (by decide) rfl ?_
          obtain ⟨g_7, hf⟩ := hf
          refine z_cVi m_X13_isSign [.int 40] (a0) (q := 49) (rc2 := 0) (rs2 := 0) (st := []) dX13_takePart_46 rfl q2026 oV_X13_isSign rfl rfl (z_room_of (by first | exact z_le rfl | (simp only [z_M.d, z_M.nL, z_M.lo, m_X13_isSign, m_X13_takePart]; omega)) (by first | exact z_le rfl | (simp only [z_M.d, z_M.nL, z_M.lo, m_X13_isSign, m_X13_takePart]; omega))) (z_le rfl) (z_rcv_of 11 rfl (z_L11_T g_7) rfl) rfl  rfl hf (fun x_8 h_9 hf => ?_)
          refine z_if_ne (q := 52) (tgt := 69) dX13_takePart_49 rfl rfl (fun hc => ?_) (fun hc => ?_)
          · have hf := hf.2 hc
            exact hf
          · have hf := hf.1 hc
            refine z_aload_n (q := 53) (i := 0) (x := a0) dX13_takePart_52 rfl rfl rfl ?_
            refine z_bipush (q := 55) (v := 17) dX13_takePart_53 (by decide) rfl ?_
            obtain ⟨g_10, hf⟩ := hf
            refine z_cVi m_X13_isWord [.int 17] (a0) (q := 58) (rc2 := 0) (rs2 := 0) (st := []) dX13_takePart_55 rfl q1954 oV_X13_isWord rfl rfl (z_room_of (by first | exact z_le rfl | (simp only [z_M.d, z_M.nL, z_M.lo, m_X13_isWord, m_X13_takePart]; omega)) (by first | exact z_le rfl | (simp only [z_M.d, z_M.nL, z_M.lo, m_X13_isWord, m_X13_takePart]; omega))) (z_le rfl) (z_rcv_of 11 rfl (z_L11_T g_10) rfl) rfl  rfl hf (fun x_11 h_12 hf => ?_)
            refine z_if_ne (q := 61) (tgt := 69) dX13_takePart_58 rfl rfl (fun hc => ?_) (fun hc => ?_)
            · have hf := hf.2 hc
              exact hf
            · have hf := hf.1 hc
              refine z_aload_n (q := 62) (i := 0) (x := a0) dX13_takePart_61 rfl rfl rfl ?_
              refine z_iconst (q := 63) (v := 1) dX13_takePart_62 rfl rfl ?_
              obtain ⟨g_13, hf⟩ := hf
              refine z_cVv m_X13_wrong [.int 1] (a0) (q := 66) (rc2 := 0) (rs2 := 0) (st := []) dX13_takePart_63 rfl q1962 oV_X13_wrong rfl rfl (z_room_of (by first | exact z_le rfl | (simp only [z_M.d, z_M.nL, z_M.lo, m_X13_wrong, m_X13_takePart]; omega)) (by first | exact z_le rfl | (simp only [z_M.d, z_M.nL, z_M.lo, m_X13_wrong, m_X13_takePart]; omega))) (z_le rfl) (z_rcv_of 11 rfl (z_L11_T g_13) rfl) rfl  rfl hf (fun h_14 hf => ?_)
              refine z_goto (q := 79) dX13_takePart_66 rfl ?_
              exact hf
    refine z_icmp_ne (q := 21) (tgt := 25) dX13_takePart_18 rfl rfl (fun hc => ?_) (fun hc => ?_)
    · have hk := (z_ite hk).2 hc
      refine z_iconst (q := 26) (v := 0) dX13_takePart_25 rfl rfl ?_
      exact hk
    · have hk := (z_ite hk).1 hc
      refine z_iconst (q := 22) (v := 1) dX13_takePart_21 rfl rfl ?_
      refine z_goto (q := 26) dX13_takePart_22 rfl ?_
      exact hk
  · have hf := hf.2 hc
    exact z_vret dX13_takePart_7 rfl hf

theorem b_X13_takePart_69 {l : Launch} {G : z_G} {d : Nat} {a0 : Nat} {x1 : Int32} {x2 : Int32} {x3 : Int32} {h : z_H} {Q : z_Q}  (hf : (x1 = 5 → z_L11 h a0 ∧ z_Ct l G m_X13_wrong [.ref a0, .int 5] h (z_Qv (fun h_2 => z_V l G (m_X13_takePart (d + 1)) (z_Fm G (m_X13_takePart (d + 1)) Q) 0 0 h_2 79 [some (.ref a0), some (.int x1), some (.int x2), some (.int x3)] []))) ∧ (¬ x1 = 5 → z_V l G (m_X13_takePart (d + 1)) (z_Fm G (m_X13_takePart (d + 1)) Q) 0 0 h 79 [some (.ref a0), some (.int x1), some (.int x2), some (.int x3)] [])) : z_V l G (m_X13_takePart (d + 1)) (z_Fm G (m_X13_takePart (d + 1)) Q) 0 0 h 69 [some (.ref a0), some (.int x1), some (.int x2), some (.int x3)] [] := by
  refine z_iload_n (q := 70) (i := 1) (x := x1) dX13_takePart_69 rfl rfl rfl ?_
  refine z_iconst (q := 71) (v := 5) dX13_takePart_70 rfl rfl ?_
  refine z_icmp_ne (q := 74) (tgt := 79) dX13_takePart_71 rfl rfl (fun hc => ?_) (fun hc => ?_)
  · have hf := hf.2 hc
    exact hf
  · have hf := hf.1 hc
    refine z_aload_n (q := 75) (i := 0) (x := a0) dX13_takePart_74 rfl rfl rfl ?_
    refine z_iconst (q := 76) (v := 5) dX13_takePart_75 rfl rfl ?_
    obtain ⟨g_1, hf⟩ := hf
    refine z_cVv m_X13_wrong [.int 5] (a0) (q := 79) (rc2 := 0) (rs2 := 0) (st := []) dX13_takePart_76 rfl q1962 oV_X13_wrong rfl rfl (z_room_of (by first | exact z_le rfl | (simp only [z_M.d, z_M.nL, z_M.lo, m_X13_wrong, m_X13_takePart]; omega)) (by first | exact z_le rfl | (simp only [z_M.d, z_M.nL, z_M.lo, m_X13_wrong, m_X13_takePart]; omega))) (z_le rfl) (z_rcv_of 11 rfl (z_L11_T g_1) rfl) rfl  rfl hf (fun h_2 hf => ?_)
    exact hf

theorem b_X13_takePart_79 {l : Launch} {G : z_G} {d : Nat} {a0 : Nat} {x1 : Int32} {x2 : Int32} {x3 : Int32} {h : z_H} {Q : z_Q}  (hf : z_L11 h a0 ∧ ((h.I a0 8) ≤ 0 → z_Ct l G m_X13_hasWord [.ref a0, .int 17] h (z_Qi (fun x_2 h_3 => (x_2 = 0 → z_L11 h_3 a0 ∧ z_Ct l G m_X13_hasSign [.ref a0, .int 40] h_3 (z_Qi (fun x_5 h_6 => (x_5 = 0 → z_L11 h_6 a0 ∧ ((x2 = 0 → True) ∧ (¬ x2 = 0 → vp_in (h_6.I a0 7) 1002 ∧ True)) ∧ z_Ct l G m_X13_emit [.ref a0, .int (if x2 = 0 then 2 else 1), .int (if x2 = 0 then x3 else (Int64.toInt32 (h_6.L (a0 + 4) (Int32.toNatClampNeg (h_6.I a0 7)))))] h_6 (z_Qv (fun h_9 => z_L11 h_9 a0 ∧ Q none (h_9.sI a0 7 ((h_9.I a0 7) + 1))))) ∧ (¬ x_5 = 0 → z_L11 h_6 a0 ∧ z_Ct l G (m_X13_ands d) [.ref a0, .int (x1 + 1)] h_6 (z_Qv (fun h_12 => z_L11 h_12 a0 ∧ z_Ct l G m_X13_takeSign [.ref a0, .int 41] h_12 (z_Qv (fun h_14 => Q none h_14)))))))) ∧ (¬ x_2 = 0 → z_L11 h_3 a0 ∧ z_Ct l G (m_X13_takePart d) [.ref a0, .int (x1 + 1)] h_3 (z_Qv (fun h_16 => z_L11 h_16 a0 ∧ z_Ct l G m_X13_emit [.ref a0, .int 3, .int 0] h_16 (z_Qv (fun h_18 => Q none h_18)))))))) ∧ (¬ (h.I a0 8) ≤ 0 → Q none h)) : z_V l G (m_X13_takePart (d + 1)) (z_Fm G (m_X13_takePart (d + 1)) Q) 0 0 h 79 [some (.ref a0), some (.int x1), some (.int x2), some (.int x3)] [] := by
  refine z_aload_n (q := 80) (i := 0) (x := a0) dX13_takePart_79 rfl rfl rfl ?_
  obtain ⟨g_1, hf⟩ := hf
  refine z_get 11 8 (q := 83) (v := .int (h.I a0 8)) rfl (z_lt rfl) (z_L11_T g_1) q1766 dX13_takePart_80 rfl rfl ?_
  refine z_if_le (q := 86) (tgt := 87) dX13_takePart_83 rfl rfl (fun hc => ?_) (fun hc => ?_)
  · have hf := hf.1 hc
    refine z_aload_n (q := 88) (i := 0) (x := a0) dX13_takePart_87 rfl rfl rfl ?_
    refine z_bipush (q := 90) (v := 17) dX13_takePart_88 (by decide) rfl ?_
    refine z_cVi m_X13_hasWord [.int 17] (a0) (q := 93) (rc2 := 0) (rs2 := 0) (st := []) dX13_takePart_90 rfl q1978 oV_X13_hasWord rfl rfl (z_room_of (by first | exact z_le rfl | (simp only [z_M.d, z_M.nL, z_M.lo, m_X13_hasWord, m_X13_takePart]; omega)) (by first | exact z_le rfl | (simp only [z_M.d, z_M.nL, z_M.lo, m_X13_hasWord, m_X13_takePart]; omega))) (z_le rfl) (z_rcv_of 11 rfl (z_L11_T g_1) rfl) rfl  rfl hf (fun x_2 h_3 hf => ?_)
    refine z_if_eq (q := 96) (tgt := 112) dX13_takePart_93 rfl rfl (fun hc => ?_) (fun hc => ?_)
    · have hf := hf.1 hc
      refine z_aload_n (q := 113) (i := 0) (x := a0) dX13_takePart_112 rfl rfl rfl ?_
      refine z_bipush (q := 115) (v := 40) dX13_takePart_113 (by decide) rfl ?_
      obtain ⟨g_4, hf⟩ := hf
      refine z_cVi m_X13_hasSign [.int 40] (a0) (q := 118) (rc2 := 0) (rs2 := 0) (st := []) dX13_takePart_115 rfl q2034 oV_X13_hasSign rfl rfl (z_room_of (by first | exact z_le rfl | (simp only [z_M.d, z_M.nL, z_M.lo, m_X13_hasSign, m_X13_takePart]; omega)) (by first | exact z_le rfl | (simp only [z_M.d, z_M.nL, z_M.lo, m_X13_hasSign, m_X13_takePart]; omega))) (z_le rfl) (z_rcv_of 11 rfl (z_L11_T g_4) rfl) rfl  rfl hf (fun x_5 h_6 hf => ?_)
      refine z_if_eq (q := 121) (tgt := 137) dX13_takePart_118 rfl rfl (fun hc => ?_) (fun hc => ?_)
      · have hf := hf.1 hc
        refine z_aload_n (q := 138) (i := 0) (x := a0) dX13_takePart_137 rfl rfl rfl ?_
        refine z_iload_n (q := 139) (i := 2) (x := x2) dX13_takePart_138 rfl rfl rfl ?_
        have hk : z_V l G (m_X13_takePart (d + 1)) (z_Fm G (m_X13_takePart (d + 1)) Q) 0 0 h_6 147 [some (.ref a0), some (.int x1), some (.int x2), some (.int x3)] [.int (if x2 = 0 then 2 else 1), .ref a0] := by
          refine z_iload_n (q := 148) (i := 2) (x := x2) dX13_takePart_147 rfl rfl rfl ?_
          obtain ⟨g_7, hf⟩ := hf
          obtain ⟨hsc, hf⟩ := hf
          have hk : z_V l G (m_X13_takePart (d + 1)) (z_Fm G (m_X13_takePart (d + 1)) Q) 0 0 h_6 165 [some (.ref a0), some (.int x1), some (.int x2), some (.int x3)] [.int (if x2 = 0 then x3 else (Int64.toInt32 (h_6.L (a0 + 4) (Int32.toNatClampNeg (h_6.I a0 7))))), .int (if x2 = 0 then 2 else 1), .ref a0] := by
            refine z_cVv m_X13_emit [.int (if x2 = 0 then 2 else 1), .int (if x2 = 0 then x3 else (Int64.toInt32 (h_6.L (a0 + 4) (Int32.toNatClampNeg (h_6.I a0 7)))))] (a0) (q := 168) (rc2 := 0) (rs2 := 0) (st := []) dX13_takePart_165 rfl q2030 oV_X13_emit rfl rfl (z_room_of (by first | exact z_le rfl | (simp only [z_M.d, z_M.nL, z_M.lo, m_X13_emit, m_X13_takePart]; omega)) (by first | exact z_le rfl | (simp only [z_M.d, z_M.nL, z_M.lo, m_X13_emit, m_X13_takePart]; omega))) (z_le rfl) (z_rcv_of 11 rfl (z_L11_T g_7) rfl) rfl  rfl hf (fun h_9 hf => ?_)
            refine z_aload_n (q := 169) (i := 0) (x := a0) dX13_takePart_168 rfl rfl rfl ?_
            refine z_dup (q := 170) dX13_takePart_169 rfl rfl ?_
            obtain ⟨g_10, hf⟩ := hf
            refine z_get 11 7 (q := 173) (v := .int (h_9.I a0 7)) rfl (z_lt rfl) (z_L11_T g_10) q1765 dX13_takePart_170 rfl rfl ?_
            refine z_iconst (q := 174) (v := 1) dX13_takePart_173 rfl rfl ?_
            refine z_iadd (q := 175) dX13_takePart_174 rfl ?_
            refine z_putI 11 7 (q := 178) (x := ((h_9.I a0 7) + 1)) (v := .int ((h_9.I a0 7) + 1)) rfl (z_lt rfl) (z_L11_T g_10) q1765 rfl dX13_takePart_175 rfl rfl rfl rfl (fun _ _ _ => rfl) ?_
            exact z_vret dX13_takePart_178 rfl hf
          refine z_if_eq (q := 151) (tgt := 164) dX13_takePart_148 rfl rfl (fun hc => ?_) (fun hc => ?_)
          · have hk := (z_ite hk).1 hc
            have hsc := hsc.1 hc
            refine z_iload_n (q := 165) (i := 3) (x := x3) dX13_takePart_164 rfl rfl rfl ?_
            exact hk
          · have hk := (z_ite hk).2 hc
            have hsc := hsc.2 hc
            obtain ⟨g_8, hsc⟩ := hsc
            refine z_aload_n (q := 152) (i := 0) (x := a0) dX13_takePart_151 rfl rfl rfl ?_
            refine z_get 11 6 (q := 155) (v := .ref (a0 + 4)) rfl (z_lt rfl) (z_L11_T g_7) q1764 dX13_takePart_152 rfl (z_fvR (fun _ _ _ => rfl) (z_L11_P6 g_7)) ?_
            refine z_aload_n (q := 156) (i := 0) (x := a0) dX13_takePart_155 rfl rfl rfl ?_
            refine z_get 11 7 (q := 159) (v := .int (h_6.I a0 7)) rfl (z_lt rfl) (z_L11_T g_7) q1765 dX13_takePart_156 rfl rfl ?_
            refine z_lald (q := 160) (n := 1002) (z_L11_A6 g_7) g_8 dX13_takePart_159 rfl ?_
            refine z_l2i (q := 161) dX13_takePart_160 rfl ?_
            refine z_goto (q := 165) dX13_takePart_161 rfl ?_
            exact hk
        refine z_if_eq (q := 142) (tgt := 146) dX13_takePart_139 rfl rfl (fun hc => ?_) (fun hc => ?_)
        · have hk := (z_ite hk).1 hc
          refine z_iconst (q := 147) (v := 2) dX13_takePart_146 rfl rfl ?_
          exact hk
        · have hk := (z_ite hk).2 hc
          refine z_iconst (q := 143) (v := 1) dX13_takePart_142 rfl rfl ?_
          refine z_goto (q := 147) dX13_takePart_143 rfl ?_
          exact hk
      · have hf := hf.2 hc
        refine z_aload_n (q := 122) (i := 0) (x := a0) dX13_takePart_121 rfl rfl rfl ?_
        refine z_iload_n (q := 123) (i := 1) (x := x1) dX13_takePart_122 rfl rfl rfl ?_
        refine z_iconst (q := 124) (v := 1) dX13_takePart_123 rfl rfl ?_
        refine z_iadd (q := 125) dX13_takePart_124 rfl ?_
        obtain ⟨g_11, hf⟩ := hf
        refine z_cVv (m_X13_ands d) [.int (x1 + 1)] (a0) (q := 128) (rc2 := 0) (rs2 := 0) (st := []) dX13_takePart_125 rfl q2006 (oV_X13_ands _) rfl rfl (z_room_of (by first | exact z_le rfl | (simp only [z_M.d, z_M.nL, z_M.lo, m_X13_ands, m_X13_takePart]; omega)) (by first | exact z_le rfl | (simp only [z_M.d, z_M.nL, z_M.lo, m_X13_ands, m_X13_takePart]; omega))) (z_le rfl) (z_rcv_of 11 rfl (z_L11_T g_11) rfl) rfl  rfl hf (fun h_12 hf => ?_)
        refine z_aload_n (q := 129) (i := 0) (x := a0) dX13_takePart_128 rfl rfl rfl ?_
        refine z_bipush (q := 131) (v := 41) dX13_takePart_129 (by decide) rfl ?_
        obtain ⟨g_13, hf⟩ := hf
        refine z_cVv m_X13_takeSign [.int 41] (a0) (q := 134) (rc2 := 0) (rs2 := 0) (st := []) dX13_takePart_131 rfl q2038 oV_X13_takeSign rfl rfl (z_room_of (by first | exact z_le rfl | (simp only [z_M.d, z_M.nL, z_M.lo, m_X13_takeSign, m_X13_takePart]; omega)) (by first | exact z_le rfl | (simp only [z_M.d, z_M.nL, z_M.lo, m_X13_takeSign, m_X13_takePart]; omega))) (z_le rfl) (z_rcv_of 11 rfl (z_L11_T g_13) rfl) rfl  rfl hf (fun h_14 hf => ?_)
        refine z_goto (q := 178) dX13_takePart_134 rfl ?_
        exact z_vret dX13_takePart_178 rfl hf
    · have hf := hf.2 hc
      refine z_aload_n (q := 97) (i := 0) (x := a0) dX13_takePart_96 rfl rfl rfl ?_
      refine z_iload_n (q := 98) (i := 1) (x := x1) dX13_takePart_97 rfl rfl rfl ?_
      refine z_iconst (q := 99) (v := 1) dX13_takePart_98 rfl rfl ?_
      refine z_iadd (q := 100) dX13_takePart_99 rfl ?_
      obtain ⟨g_15, hf⟩ := hf
      refine z_cVv (m_X13_takePart d) [.int (x1 + 1)] (a0) (q := 103) (rc2 := 0) (rs2 := 0) (st := []) dX13_takePart_100 rfl q2022 (oV_X13_takePart _) rfl rfl (z_room_of (by first | exact z_le rfl | (simp only [z_M.d, z_M.nL, z_M.lo, m_X13_takePart, m_X13_takePart]; omega)) (by first | exact z_le rfl | (simp only [z_M.d, z_M.nL, z_M.lo, m_X13_takePart, m_X13_takePart]; omega))) (z_le rfl) (z_rcv_of 11 rfl (z_L11_T g_15) rfl) rfl  rfl hf (fun h_16 hf => ?_)
      refine z_aload_n (q := 104) (i := 0) (x := a0) dX13_takePart_103 rfl rfl rfl ?_
      refine z_iconst (q := 105) (v := 3) dX13_takePart_104 rfl rfl ?_
      refine z_iconst (q := 106) (v := 0) dX13_takePart_105 rfl rfl ?_
      obtain ⟨g_17, hf⟩ := hf
      refine z_cVv m_X13_emit [.int 3, .int 0] (a0) (q := 109) (rc2 := 0) (rs2 := 0) (st := []) dX13_takePart_106 rfl q2030 oV_X13_emit rfl rfl (z_room_of (by first | exact z_le rfl | (simp only [z_M.d, z_M.nL, z_M.lo, m_X13_emit, m_X13_takePart]; omega)) (by first | exact z_le rfl | (simp only [z_M.d, z_M.nL, z_M.lo, m_X13_emit, m_X13_takePart]; omega))) (z_le rfl) (z_rcv_of 11 rfl (z_L11_T g_17) rfl) rfl  rfl hf (fun h_18 hf => ?_)
      refine z_goto (q := 178) dX13_takePart_109 rfl ?_
      exact z_vret dX13_takePart_178 rfl hf
  · have hf := hf.2 hc
    exact z_vret dX13_takePart_86 rfl hf

theorem u_X13_takeSign {l : Launch} {G : z_G} {a0 : Nat} {x1 : Int32} {h : z_H} {Q : z_Q} (hst : l.stackTraces = false)  (hf : z_L11 h a0 ∧ z_Ct l G m_X13_isSign [.ref a0, .int x1] h (z_Qi (fun x_2 h_3 => (x_2 = 0 → z_L11 h_3 a0 ∧ z_Ct l G m_X13_wrong [.ref a0, .int 1] h_3 (z_Qv (fun h_5 => Q none h_5))) ∧ (¬ x_2 = 0 → z_L11 h_3 a0 ∧ Q none (h_3.sI a0 7 ((h_3.I a0 7) + 1)))))) : z_Ct l G m_X13_takeSign [.ref a0, .int x1] h Q := by
  refine z_Ct.of (ls := [some (.ref a0), some (.int x1)]) hst rfl (by show plainName yX13_takeSign.cls = true; decide +kernel) (z_le rfl) rfl ?_
  show z_V l G m_X13_takeSign (z_Fm G m_X13_takeSign Q) 0 0 h 0 [some (.ref a0), some (.int x1)] []
  refine z_aload_n (q := 1) (i := 0) (x := a0) dX13_takeSign_0 rfl rfl rfl ?_
  refine z_iload_n (q := 2) (i := 1) (x := x1) dX13_takeSign_1 rfl rfl rfl ?_
  obtain ⟨g_1, hf⟩ := hf
  refine z_cVi m_X13_isSign [.int x1] (a0) (q := 5) (rc2 := 0) (rs2 := 0) (st := []) dX13_takeSign_2 rfl q2026 oV_X13_isSign rfl rfl ⟨z_le rfl, z_le rfl⟩ (z_le rfl) (z_rcv_of 11 rfl (z_L11_T g_1) rfl) rfl  rfl hf (fun x_2 h_3 hf => ?_)
  refine z_if_eq (q := 8) (tgt := 21) dX13_takeSign_5 rfl rfl (fun hc => ?_) (fun hc => ?_)
  · have hf := hf.1 hc
    refine z_aload_n (q := 22) (i := 0) (x := a0) dX13_takeSign_21 rfl rfl rfl ?_
    refine z_iconst (q := 23) (v := 1) dX13_takeSign_22 rfl rfl ?_
    obtain ⟨g_4, hf⟩ := hf
    refine z_cVv m_X13_wrong [.int 1] (a0) (q := 26) (rc2 := 0) (rs2 := 0) (st := []) dX13_takeSign_23 rfl q1962 oV_X13_wrong rfl rfl ⟨z_le rfl, z_le rfl⟩ (z_le rfl) (z_rcv_of 11 rfl (z_L11_T g_4) rfl) rfl  rfl hf (fun h_5 hf => ?_)
    exact z_vret dX13_takeSign_26 rfl hf
  · have hf := hf.2 hc
    refine z_aload_n (q := 9) (i := 0) (x := a0) dX13_takeSign_8 rfl rfl rfl ?_
    refine z_dup (q := 10) dX13_takeSign_9 rfl rfl ?_
    obtain ⟨g_6, hf⟩ := hf
    refine z_get 11 7 (q := 13) (v := .int (h_3.I a0 7)) rfl (z_lt rfl) (z_L11_T g_6) q1765 dX13_takeSign_10 rfl rfl ?_
    refine z_iconst (q := 14) (v := 1) dX13_takeSign_13 rfl rfl ?_
    refine z_iadd (q := 15) dX13_takeSign_14 rfl ?_
    refine z_putI 11 7 (q := 18) (x := ((h_3.I a0 7) + 1)) (v := .int ((h_3.I a0 7) + 1)) rfl (z_lt rfl) (z_L11_T g_6) q1765 rfl dX13_takeSign_15 rfl rfl rfl rfl (fun _ _ _ => rfl) ?_
    refine z_goto (q := 26) dX13_takeSign_18 rfl ?_
    exact z_vret dX13_takeSign_26 rfl hf

theorem u_X13_takeWord {l : Launch} {G : z_G} {a0 : Nat} {x1 : Int32} {h : z_H} {Q : z_Q} (hst : l.stackTraces = false)  (hf : z_L11 h a0 ∧ z_Ct l G m_X13_hasWord [.ref a0, .int x1] h (z_Qi (fun x_2 h_3 => (x_2 = 0 → z_L11 h_3 a0 ∧ z_Ct l G m_X13_wrong [.ref a0, .int 1] h_3 (z_Qv (fun h_5 => Q none h_5))) ∧ (¬ x_2 = 0 → Q none h_3)))) : z_Ct l G m_X13_takeWord [.ref a0, .int x1] h Q := by
  refine z_Ct.of (ls := [some (.ref a0), some (.int x1)]) hst rfl (by show plainName yX13_takeWord.cls = true; decide +kernel) (z_le rfl) rfl ?_
  show z_V l G m_X13_takeWord (z_Fm G m_X13_takeWord Q) 0 0 h 0 [some (.ref a0), some (.int x1)] []
  refine z_aload_n (q := 1) (i := 0) (x := a0) dX13_takeWord_0 rfl rfl rfl ?_
  refine z_iload_n (q := 2) (i := 1) (x := x1) dX13_takeWord_1 rfl rfl rfl ?_
  obtain ⟨g_1, hf⟩ := hf
  refine z_cVi m_X13_hasWord [.int x1] (a0) (q := 5) (rc2 := 0) (rs2 := 0) (st := []) dX13_takeWord_2 rfl q1978 oV_X13_hasWord rfl rfl ⟨z_le rfl, z_le rfl⟩ (z_le rfl) (z_rcv_of 11 rfl (z_L11_T g_1) rfl) rfl  rfl hf (fun x_2 h_3 hf => ?_)
  refine z_if_ne (q := 8) (tgt := 13) dX13_takeWord_5 rfl rfl (fun hc => ?_) (fun hc => ?_)
  · have hf := hf.2 hc
    exact z_vret dX13_takeWord_13 rfl hf
  · have hf := hf.1 hc
    refine z_aload_n (q := 9) (i := 0) (x := a0) dX13_takeWord_8 rfl rfl rfl ?_
    refine z_iconst (q := 10) (v := 1) dX13_takeWord_9 rfl rfl ?_
    obtain ⟨g_4, hf⟩ := hf
    refine z_cVv m_X13_wrong [.int 1] (a0) (q := 13) (rc2 := 0) (rs2 := 0) (st := []) dX13_takeWord_10 rfl q1962 oV_X13_wrong rfl rfl ⟨z_le rfl, z_le rfl⟩ (z_le rfl) (z_rcv_of 11 rfl (z_L11_T g_4) rfl) rfl  rfl hf (fun h_5 hf => ?_)
    exact z_vret dX13_takeWord_13 rfl hf

theorem u_X13_taken {l : Launch} {G : z_G} {a0 : Nat} {x1 : Int32} {x2 : Int32} {h : z_H} {Q : z_Q} (hst : l.stackTraces = false)  (hf : z_L11 h a0 ∧ (x1 < 0 → Q (some (.int (-1))) (h.sI a0 0 0)) ∧ (¬ x1 < 0 → vp_in 12 16560 ∧ ((h.I (a0 + 16) (Int32.toNatClampNeg 12)) ≤ x1 → Q (some (.int (-1))) (h.sI a0 0 0)) ∧ (¬ (h.I (a0 + 16) (Int32.toNatClampNeg 12)) ≤ x1 → z_Ct l G m_X13_within [.int x2, .int 0, .int 3] (h.sI a0 0 0) (z_Qi (fun x_4 h_5 => z_L11 h_5 a0 ∧ ((x_4 = 0 → True) ∧ (¬ x_4 = 0 → vp_in ((260 + (4 * x1)) + x2) 16560 ∧ True)) ∧ Q (some (.int (if x_4 = 0 then (-1) else (h_5.I (a0 + 16) (Int32.toNatClampNeg ((260 + (4 * x1)) + x2)))))) h_5))))) : z_Ct l G m_X13_taken [.ref a0, .int x1, .int x2] h Q := by
  refine z_Ct.of (ls := [some (.ref a0), some (.int x1), some (.int x2)]) hst rfl (by show plainName yX13_taken.cls = true; decide +kernel) (z_le rfl) rfl ?_
  show z_V l G m_X13_taken (z_Fm G m_X13_taken Q) 0 0 h 0 [some (.ref a0), some (.int x1), some (.int x2)] []
  refine z_aload_n (q := 1) (i := 0) (x := a0) dX13_taken_0 rfl rfl rfl ?_
  refine z_iconst (q := 2) (v := 0) dX13_taken_1 rfl rfl ?_
  obtain ⟨g_1, hf⟩ := hf
  refine z_putI 11 0 (q := 5) (x := 0) (v := .int 0) rfl (z_lt rfl) (z_L11_T g_1) q1758 rfl dX13_taken_2 rfl rfl rfl rfl (fun _ _ _ => rfl) ?_
  refine z_iload_n (q := 6) (i := 1) (x := x1) dX13_taken_5 rfl rfl rfl ?_
  refine z_if_lt (q := 9) (tgt := 46) dX13_taken_6 rfl rfl (fun hc => ?_) (fun hc => ?_)
  · have hf := hf.1 hc
    refine z_iconst (q := 47) (v := (-1)) dX13_taken_46 rfl rfl ?_
    exact z_iret dX13_taken_47 rfl hf
  · have hf := hf.2 hc
    refine z_iload_n (q := 10) (i := 1) (x := x1) dX13_taken_9 rfl rfl rfl ?_
    refine z_aload_n (q := 11) (i := 0) (x := a0) dX13_taken_10 rfl rfl rfl ?_
    refine z_get 11 22 (q := 14) (v := .ref (a0 + 16)) rfl (z_lt rfl) (z_L11_T g_1) q1780 dX13_taken_11 rfl (z_fvR (fun _ _ _ => rfl) (z_L11_P22 g_1)) ?_
    refine z_bipush (q := 16) (v := 12) dX13_taken_14 (by decide) rfl ?_
    obtain ⟨g_3, hf⟩ := hf
    refine z_iald (q := 17) (n := 16560) (z_L11_A22 g_1) g_3 dX13_taken_16 rfl ?_
    refine z_topI (z_rIa (by omega)) ?_
    refine z_icmp_ge (q := 20) (tgt := 46) dX13_taken_17 rfl rfl (fun hc => ?_) (fun hc => ?_)
    · have hf := hf.1 hc
      refine z_iconst (q := 47) (v := (-1)) dX13_taken_46 rfl rfl ?_
      exact z_iret dX13_taken_47 rfl hf
    · have hf := hf.2 hc
      refine z_iload_n (q := 21) (i := 2) (x := x2) dX13_taken_20 rfl rfl rfl ?_
      refine z_iconst (q := 22) (v := 0) dX13_taken_21 rfl rfl ?_
      refine z_iconst (q := 23) (v := 3) dX13_taken_22 rfl rfl ?_
      refine z_cSi m_X13_within [.int x2, .int 0, .int 3] (q := 26) (rc2 := 0) (rs2 := 0) (st := []) dX13_taken_23 rfl q2074 oS_X13_within rfl rfl ⟨z_le rfl, z_le rfl⟩ (z_le rfl) rfl  rfl hf (fun x_4 h_5 hf => ?_)
      obtain ⟨g_6, hf⟩ := hf
      obtain ⟨hsc, hf⟩ := hf
      have hk : z_V l G m_X13_taken (z_Fm G m_X13_taken Q) 0 0 h_5 47 [some (.ref a0), some (.int x1), some (.int x2)] [.int (if x_4 = 0 then (-1) else (h_5.I (a0 + 16) (Int32.toNatClampNeg ((260 + (4 * x1)) + x2))))] := by
        exact z_iret dX13_taken_47 rfl hf
      refine z_if_eq (q := 29) (tgt := 46) dX13_taken_26 rfl rfl (fun hc => ?_) (fun hc => ?_)
      · have hk := (z_ite hk).1 hc
        have hsc := hsc.1 hc
        refine z_iconst (q := 47) (v := (-1)) dX13_taken_46 rfl rfl ?_
        exact hk
      · have hk := (z_ite hk).2 hc
        have hsc := hsc.2 hc
        obtain ⟨g_7, hsc⟩ := hsc
        refine z_aload_n (q := 30) (i := 0) (x := a0) dX13_taken_29 rfl rfl rfl ?_
        refine z_get 11 22 (q := 33) (v := .ref (a0 + 16)) rfl (z_lt rfl) (z_L11_T g_6) q1780 dX13_taken_30 rfl (z_fvR (fun _ _ _ => rfl) (z_L11_P22 g_6)) ?_
        refine z_sipush (q := 36) (v := 260) dX13_taken_33 (by decide) rfl ?_
        refine z_iconst (q := 37) (v := 4) dX13_taken_36 rfl rfl ?_
        refine z_iload_n (q := 38) (i := 1) (x := x1) dX13_taken_37 rfl rfl rfl ?_
        refine z_imul (q := 39) dX13_taken_38 rfl ?_
        refine z_iadd (q := 40) dX13_taken_39 rfl ?_
        refine z_iload_n (q := 41) (i := 2) (x := x2) dX13_taken_40 rfl rfl rfl ?_
        refine z_iadd (q := 42) dX13_taken_41 rfl ?_
        refine z_iald (q := 43) (n := 16560) (z_L11_A22 g_6) g_7 dX13_taken_42 rfl ?_
        refine z_goto (q := 47) dX13_taken_43 rfl ?_
        exact hk

theorem u_X13_takes {l : Launch} {G : z_G} {a0 : Nat} {x1 : Int32} {x2 : Int32} {h : z_H} {Q : z_Q} (hst : l.stackTraces = false)  (hf : z_L11 h a0 ∧ vp_in (x1 + 5) 16560 ∧ ∀ v_3 : Int32, v_3 = (h.I (a0 + 16) (Int32.toNatClampNeg (x1 + 5))) → vp_in (x1 + 2) 16560 ∧ ∀ v_6 : Int32, v_6 = (h.I (a0 + 16) (Int32.toNatClampNeg (x1 + 2))) → z_Ct l G m_X13_lays [.ref a0, .int (x1 + 116), .int v_6, .int x2] h (z_Qv (fun h_8 => ∀ v_9 : Int32, v_9 = ((x1 + 20) + (48 * v_3)) → z_V l G m_X13_takes (z_Fm G m_X13_takes Q) 0 0 h_8 44 [some (.ref a0), some (.int x1), none, some (.int v_3), some (.int v_6), some (.int v_9), some (.int 0)] []))) : z_Ct l G m_X13_takes [.ref a0, .int x1, .int x2] h Q := by
  refine z_Ct.of (ls := [some (.ref a0), some (.int x1), some (.int x2), none, none, none, none]) hst rfl (by show plainName yX13_takes.cls = true; decide +kernel) (z_le rfl) rfl ?_
  show z_V l G m_X13_takes (z_Fm G m_X13_takes Q) 0 0 h 0 [some (.ref a0), some (.int x1), some (.int x2), none, none, none, none] []
  refine z_aload_n (q := 1) (i := 0) (x := a0) dX13_takes_0 rfl rfl rfl ?_
  obtain ⟨g_1, hf⟩ := hf
  refine z_get 11 22 (q := 4) (v := .ref (a0 + 16)) rfl (z_lt rfl) (z_L11_T g_1) q1780 dX13_takes_1 rfl (z_fvR (fun _ _ _ => rfl) (z_L11_P22 g_1)) ?_
  refine z_iload_n (q := 5) (i := 1) (x := x1) dX13_takes_4 rfl rfl rfl ?_
  refine z_iconst (q := 6) (v := 5) dX13_takes_5 rfl rfl ?_
  refine z_iadd (q := 7) dX13_takes_6 rfl ?_
  obtain ⟨g_2, hf⟩ := hf
  refine z_iald (q := 8) (n := 16560) (z_L11_A22 g_1) g_2 dX13_takes_7 rfl ?_
  refine z_nmI (fun v_3 hv_4 => ?_)
  have hf := hf v_3 hv_4
  refine z_istore_n (q := 9) (i := 3) (ls2 := [some (.ref a0), some (.int x1), some (.int x2), some (.int v_3), none, none, none]) (x := v_3) dX13_takes_8 rfl (z_lt rfl) rfl rfl ?_
  refine z_aload_n (q := 10) (i := 0) (x := a0) dX13_takes_9 rfl rfl rfl ?_
  refine z_get 11 22 (q := 13) (v := .ref (a0 + 16)) rfl (z_lt rfl) (z_L11_T g_1) q1780 dX13_takes_10 rfl (z_fvR (fun _ _ _ => rfl) (z_L11_P22 g_1)) ?_
  refine z_iload_n (q := 14) (i := 1) (x := x1) dX13_takes_13 rfl rfl rfl ?_
  refine z_iconst (q := 15) (v := 2) dX13_takes_14 rfl rfl ?_
  refine z_iadd (q := 16) dX13_takes_15 rfl ?_
  obtain ⟨g_5, hf⟩ := hf
  refine z_iald (q := 17) (n := 16560) (z_L11_A22 g_1) g_5 dX13_takes_16 rfl ?_
  refine z_nmI (fun v_6 hv_7 => ?_)
  have hf := hf v_6 hv_7
  refine z_istore (q := 19) (i := 4) (ls2 := [some (.ref a0), some (.int x1), some (.int x2), some (.int v_3), some (.int v_6), none, none]) (x := v_6) dX13_takes_17 (z_lt rfl) rfl rfl ?_
  refine z_aload_n (q := 20) (i := 0) (x := a0) dX13_takes_19 rfl rfl rfl ?_
  refine z_iload_n (q := 21) (i := 1) (x := x1) dX13_takes_20 rfl rfl rfl ?_
  refine z_bipush (q := 23) (v := 116) dX13_takes_21 (by decide) rfl ?_
  refine z_iadd (q := 24) dX13_takes_23 rfl ?_
  refine z_iload (q := 26) (i := 4) (x := v_6) dX13_takes_24 rfl rfl ?_
  refine z_iload_n (q := 27) (i := 2) (x := x2) dX13_takes_26 rfl rfl rfl ?_
  refine z_cVv m_X13_lays [.int (x1 + 116), .int v_6, .int x2] (a0) (q := 30) (rc2 := 0) (rs2 := 0) (st := []) dX13_takes_27 rfl q2136 oV_X13_lays rfl rfl ⟨z_le rfl, z_le rfl⟩ (z_le rfl) (z_rcv_of 11 rfl (z_L11_T g_1) rfl) rfl  rfl hf (fun h_8 hf => ?_)
  refine z_iload_n (q := 31) (i := 1) (x := x1) dX13_takes_30 rfl rfl rfl ?_
  refine z_bipush (q := 33) (v := 20) dX13_takes_31 (by decide) rfl ?_
  refine z_iadd (q := 34) dX13_takes_33 rfl ?_
  refine z_bipush (q := 36) (v := 48) dX13_takes_34 (by decide) rfl ?_
  refine z_iload_n (q := 37) (i := 3) (x := v_3) dX13_takes_36 rfl rfl rfl ?_
  refine z_imul (q := 38) dX13_takes_37 rfl ?_
  refine z_iadd (q := 39) dX13_takes_38 rfl ?_
  refine z_nmI (fun v_9 hv_10 => ?_)
  have hf := hf v_9 hv_10
  refine z_istore (q := 41) (i := 5) (ls2 := [some (.ref a0), some (.int x1), some (.int x2), some (.int v_3), some (.int v_6), some (.int v_9), none]) (x := v_9) dX13_takes_39 (z_lt rfl) rfl rfl ?_
  refine z_iconst (q := 42) (v := 0) dX13_takes_41 rfl rfl ?_
  refine z_istore (q := 44) (i := 6) (ls2 := [some (.ref a0), some (.int x1), some (.int x2), some (.int v_3), some (.int v_6), some (.int v_9), some (.int 0)]) (x := 0) dX13_takes_42 (z_lt rfl) rfl rfl ?_
  refine z_prune [true, true, false, true, true, true, true] (ls2 := [some (.ref a0), some (.int x1), none, some (.int v_3), some (.int v_6), some (.int v_9), some (.int 0)]) rfl ?_
  exact hf

theorem b_X13_takes_44 {l : Launch} {G : z_G} {a0 : Nat} {x1 : Int32} {x3 : Int32} {x4 : Int32} {x5 : Int32} {x6 : Int32} {h : z_H} {Q : z_Q}  (hf : (x4 ≤ x6 → (x1 = 0 → z_L11 h a0 ∧ z_Ct l G m_X13_remembers [.ref a0, .int x3, .int x4] h (z_Qv (fun h_2 => z_V l G m_X13_takes (z_Fm G m_X13_takes Q) 0 0 h_2 107 [some (.ref a0), some (.int x1), none, some (.int x3), none, none, none] []))) ∧ (¬ x1 = 0 → z_V l G m_X13_takes (z_Fm G m_X13_takes Q) 0 0 h 107 [some (.ref a0), some (.int x1), none, some (.int x3), none, none, none] [])) ∧ (¬ x4 ≤ x6 → z_L11 h a0 ∧ vp_in ((x1 + 0) + x3) 16560 ∧ vp_in x6 48 ∧ vp_in (x5 + (h.I (a0 + 16) (Int32.toNatClampNeg ((x1 + 0) + x3)))) 16560 ∧ vp_in ((x1 + 0) + x3) 16560 ∧ vp_in ((x1 + 0) + x3) 16560 ∧ z_V l G m_X13_takes (z_Fm G m_X13_takes Q) 0 0 ((h.sI (a0 + 16) (Int32.toNatClampNeg (x5 + (h.I (a0 + 16) (Int32.toNatClampNeg ((x1 + 0) + x3))))) (h.I (a0 + 18) (Int32.toNatClampNeg x6))).sI (a0 + 16) (Int32.toNatClampNeg ((x1 + 0) + x3)) (((h.sI (a0 + 16) (Int32.toNatClampNeg (x5 + (h.I (a0 + 16) (Int32.toNatClampNeg ((x1 + 0) + x3))))) (h.I (a0 + 18) (Int32.toNatClampNeg x6))).I (a0 + 16) (Int32.toNatClampNeg ((x1 + 0) + x3))) + 1)) 44 [some (.ref a0), some (.int x1), none, some (.int x3), some (.int x4), some (.int x5), some (.int (x6 + 1))] [])) : z_V l G m_X13_takes (z_Fm G m_X13_takes Q) 0 0 h 44 [some (.ref a0), some (.int x1), none, some (.int x3), some (.int x4), some (.int x5), some (.int x6)] [] := by
  refine z_iload (q := 46) (i := 6) (x := x6) dX13_takes_44 rfl rfl ?_
  refine z_iload (q := 48) (i := 4) (x := x4) dX13_takes_46 rfl rfl ?_
  refine z_icmp_ge (q := 51) (tgt := 96) dX13_takes_48 rfl rfl (fun hc => ?_) (fun hc => ?_)
  · have hf := hf.1 hc
    refine z_iload_n (q := 97) (i := 1) (x := x1) dX13_takes_96 rfl rfl rfl ?_
    refine z_if_ne (q := 100) (tgt := 107) dX13_takes_97 rfl rfl (fun hc => ?_) (fun hc => ?_)
    · have hf := hf.2 hc
      refine z_prune [true, true, false, true, false, false, false] (ls2 := [some (.ref a0), some (.int x1), none, some (.int x3), none, none, none]) rfl ?_
      exact hf
    · have hf := hf.1 hc
      refine z_aload_n (q := 101) (i := 0) (x := a0) dX13_takes_100 rfl rfl rfl ?_
      refine z_iload_n (q := 102) (i := 3) (x := x3) dX13_takes_101 rfl rfl rfl ?_
      refine z_iload (q := 104) (i := 4) (x := x4) dX13_takes_102 rfl rfl ?_
      obtain ⟨g_1, hf⟩ := hf
      refine z_cVv m_X13_remembers [.int x3, .int x4] (a0) (q := 107) (rc2 := 0) (rs2 := 0) (st := []) dX13_takes_104 rfl q2144 oV_X13_remembers rfl rfl ⟨z_le rfl, z_le rfl⟩ (z_le rfl) (z_rcv_of 11 rfl (z_L11_T g_1) rfl) rfl  rfl hf (fun h_2 hf => ?_)
      refine z_prune [true, true, false, true, false, false, false] (ls2 := [some (.ref a0), some (.int x1), none, some (.int x3), none, none, none]) rfl ?_
      exact hf
  · have hf := hf.2 hc
    refine z_aload_n (q := 52) (i := 0) (x := a0) dX13_takes_51 rfl rfl rfl ?_
    obtain ⟨g_3, hf⟩ := hf
    refine z_get 11 22 (q := 55) (v := .ref (a0 + 16)) rfl (z_lt rfl) (z_L11_T g_3) q1780 dX13_takes_52 rfl (z_fvR (fun _ _ _ => rfl) (z_L11_P22 g_3)) ?_
    refine z_iload (q := 57) (i := 5) (x := x5) dX13_takes_55 rfl rfl ?_
    refine z_aload_n (q := 58) (i := 0) (x := a0) dX13_takes_57 rfl rfl rfl ?_
    refine z_get 11 22 (q := 61) (v := .ref (a0 + 16)) rfl (z_lt rfl) (z_L11_T g_3) q1780 dX13_takes_58 rfl (z_fvR (fun _ _ _ => rfl) (z_L11_P22 g_3)) ?_
    refine z_iload_n (q := 62) (i := 1) (x := x1) dX13_takes_61 rfl rfl rfl ?_
    refine z_iconst (q := 63) (v := 0) dX13_takes_62 rfl rfl ?_
    refine z_iadd (q := 64) dX13_takes_63 rfl ?_
    refine z_iload_n (q := 65) (i := 3) (x := x3) dX13_takes_64 rfl rfl rfl ?_
    refine z_iadd (q := 66) dX13_takes_65 rfl ?_
    obtain ⟨g_4, hf⟩ := hf
    refine z_iald (q := 67) (n := 16560) (z_L11_A22 g_3) g_4 dX13_takes_66 rfl ?_
    refine z_iadd (q := 68) dX13_takes_67 rfl ?_
    refine z_aload_n (q := 69) (i := 0) (x := a0) dX13_takes_68 rfl rfl rfl ?_
    refine z_get 11 27 (q := 72) (v := .ref (a0 + 18)) rfl (z_lt rfl) (z_L11_T g_3) q1785 dX13_takes_69 rfl (z_fvR (fun _ _ _ => rfl) (z_L11_P27 g_3)) ?_
    refine z_iload (q := 74) (i := 6) (x := x6) dX13_takes_72 rfl rfl ?_
    obtain ⟨g_5, hf⟩ := hf
    refine z_iald (q := 75) (n := 48) (z_L11_A27 g_3) g_5 dX13_takes_74 rfl ?_
    obtain ⟨g_6, hf⟩ := hf
    refine z_iast (q := 76) (n := 16560) (z_L11_A22 g_3) g_6 dX13_takes_75 rfl ?_
    refine z_aload_n (q := 77) (i := 0) (x := a0) dX13_takes_76 rfl rfl rfl ?_
    refine z_get 11 22 (q := 80) (v := .ref (a0 + 16)) rfl (z_lt rfl) (z_L11_T g_3) q1780 dX13_takes_77 rfl (z_fvR (fun _ _ _ => rfl) (z_L11_P22 g_3)) ?_
    refine z_iload_n (q := 81) (i := 1) (x := x1) dX13_takes_80 rfl rfl rfl ?_
    refine z_iconst (q := 82) (v := 0) dX13_takes_81 rfl rfl ?_
    refine z_iadd (q := 83) dX13_takes_82 rfl ?_
    refine z_iload_n (q := 84) (i := 3) (x := x3) dX13_takes_83 rfl rfl rfl ?_
    refine z_iadd (q := 85) dX13_takes_84 rfl ?_
    refine z_dup2 (q := 86) dX13_takes_85 rfl rfl rfl ?_
    obtain ⟨g_7, hf⟩ := hf
    refine z_iald (q := 87) (n := 16560) (z_L11_A22 g_3) g_7 dX13_takes_86 rfl ?_
    refine z_iconst (q := 88) (v := 1) dX13_takes_87 rfl rfl ?_
    refine z_iadd (q := 89) dX13_takes_88 rfl ?_
    obtain ⟨g_8, hf⟩ := hf
    refine z_iast (q := 90) (n := 16560) (z_L11_A22 g_3) g_8 dX13_takes_89 rfl ?_
    refine z_iinc (q := 93) (i := 6) (x := x6) (v := (x6 + 1)) (ls2 := [some (.ref a0), some (.int x1), none, some (.int x3), some (.int x4), some (.int x5), some (.int (x6 + 1))]) dX13_takes_90 rfl rfl (z_lt rfl) rfl rfl ?_
    refine z_goto (q := 44) dX13_takes_93 rfl ?_
    exact hf

theorem b_X13_takes_107 {l : Launch} {G : z_G} {a0 : Nat} {x1 : Int32} {x3 : Int32} {h : z_H} {Q : z_Q}  (hf : z_L11 h a0 ∧ vp_in (x1 + 2) 16560 ∧ vp_in (x1 + 7) 16560 ∧ vp_in (x1 + 7) 16560 ∧ vp_in (x1 + 3) 16560 ∧ vp_in (x1 + 5) 16560 ∧ vp_in (x1 + 18) 16560 ∧ Q none (((((h.sI (a0 + 16) (Int32.toNatClampNeg (x1 + 2)) 0).sI (a0 + 16) (Int32.toNatClampNeg (x1 + 7)) (((h.sI (a0 + 16) (Int32.toNatClampNeg (x1 + 2)) 0).I (a0 + 16) (Int32.toNatClampNeg (x1 + 7))) + 1)).sI (a0 + 16) (Int32.toNatClampNeg (x1 + 3)) x3).sI (a0 + 16) (Int32.toNatClampNeg (x1 + 5)) (-1)).sI (a0 + 16) (Int32.toNatClampNeg (x1 + 18)) 0)) : z_V l G m_X13_takes (z_Fm G m_X13_takes Q) 0 0 h 107 [some (.ref a0), some (.int x1), none, some (.int x3), none, none, none] [] := by
  refine z_aload_n (q := 108) (i := 0) (x := a0) dX13_takes_107 rfl rfl rfl ?_
  obtain ⟨g_1, hf⟩ := hf
  refine z_get 11 22 (q := 111) (v := .ref (a0 + 16)) rfl (z_lt rfl) (z_L11_T g_1) q1780 dX13_takes_108 rfl (z_fvR (fun _ _ _ => rfl) (z_L11_P22 g_1)) ?_
  refine z_iload_n (q := 112) (i := 1) (x := x1) dX13_takes_111 rfl rfl rfl ?_
  refine z_iconst (q := 113) (v := 2) dX13_takes_112 rfl rfl ?_
  refine z_iadd (q := 114) dX13_takes_113 rfl ?_
  refine z_iconst (q := 115) (v := 0) dX13_takes_114 rfl rfl ?_
  obtain ⟨g_2, hf⟩ := hf
  refine z_iast (q := 116) (n := 16560) (z_L11_A22 g_1) g_2 dX13_takes_115 rfl ?_
  refine z_aload_n (q := 117) (i := 0) (x := a0) dX13_takes_116 rfl rfl rfl ?_
  refine z_get 11 22 (q := 120) (v := .ref (a0 + 16)) rfl (z_lt rfl) (z_L11_T g_1) q1780 dX13_takes_117 rfl (z_fvR (fun _ _ _ => rfl) (z_L11_P22 g_1)) ?_
  refine z_iload_n (q := 121) (i := 1) (x := x1) dX13_takes_120 rfl rfl rfl ?_
  refine z_bipush (q := 123) (v := 7) dX13_takes_121 (by decide) rfl ?_
  refine z_iadd (q := 124) dX13_takes_123 rfl ?_
  refine z_dup2 (q := 125) dX13_takes_124 rfl rfl rfl ?_
  obtain ⟨g_3, hf⟩ := hf
  refine z_iald (q := 126) (n := 16560) (z_L11_A22 g_1) g_3 dX13_takes_125 rfl ?_
  refine z_iconst (q := 127) (v := 1) dX13_takes_126 rfl rfl ?_
  refine z_iadd (q := 128) dX13_takes_127 rfl ?_
  obtain ⟨g_4, hf⟩ := hf
  refine z_iast (q := 129) (n := 16560) (z_L11_A22 g_1) g_4 dX13_takes_128 rfl ?_
  refine z_aload_n (q := 130) (i := 0) (x := a0) dX13_takes_129 rfl rfl rfl ?_
  refine z_get 11 22 (q := 133) (v := .ref (a0 + 16)) rfl (z_lt rfl) (z_L11_T g_1) q1780 dX13_takes_130 rfl (z_fvR (fun _ _ _ => rfl) (z_L11_P22 g_1)) ?_
  refine z_iload_n (q := 134) (i := 1) (x := x1) dX13_takes_133 rfl rfl rfl ?_
  refine z_iconst (q := 135) (v := 3) dX13_takes_134 rfl rfl ?_
  refine z_iadd (q := 136) dX13_takes_135 rfl ?_
  refine z_iload_n (q := 137) (i := 3) (x := x3) dX13_takes_136 rfl rfl rfl ?_
  obtain ⟨g_5, hf⟩ := hf
  refine z_iast (q := 138) (n := 16560) (z_L11_A22 g_1) g_5 dX13_takes_137 rfl ?_
  refine z_aload_n (q := 139) (i := 0) (x := a0) dX13_takes_138 rfl rfl rfl ?_
  refine z_get 11 22 (q := 142) (v := .ref (a0 + 16)) rfl (z_lt rfl) (z_L11_T g_1) q1780 dX13_takes_139 rfl (z_fvR (fun _ _ _ => rfl) (z_L11_P22 g_1)) ?_
  refine z_iload_n (q := 143) (i := 1) (x := x1) dX13_takes_142 rfl rfl rfl ?_
  refine z_iconst (q := 144) (v := 5) dX13_takes_143 rfl rfl ?_
  refine z_iadd (q := 145) dX13_takes_144 rfl ?_
  refine z_iconst (q := 146) (v := (-1)) dX13_takes_145 rfl rfl ?_
  obtain ⟨g_6, hf⟩ := hf
  refine z_iast (q := 147) (n := 16560) (z_L11_A22 g_1) g_6 dX13_takes_146 rfl ?_
  refine z_aload_n (q := 148) (i := 0) (x := a0) dX13_takes_147 rfl rfl rfl ?_
  refine z_get 11 22 (q := 151) (v := .ref (a0 + 16)) rfl (z_lt rfl) (z_L11_T g_1) q1780 dX13_takes_148 rfl (z_fvR (fun _ _ _ => rfl) (z_L11_P22 g_1)) ?_
  refine z_iload_n (q := 152) (i := 1) (x := x1) dX13_takes_151 rfl rfl rfl ?_
  refine z_bipush (q := 154) (v := 18) dX13_takes_152 (by decide) rfl ?_
  refine z_iadd (q := 155) dX13_takes_154 rfl ?_
  refine z_iconst (q := 156) (v := 0) dX13_takes_155 rfl rfl ?_
  obtain ⟨g_7, hf⟩ := hf
  refine z_iast (q := 157) (n := 16560) (z_L11_A22 g_1) g_7 dX13_takes_156 rfl ?_
  exact z_vret dX13_takes_157 rfl hf

theorem u_X13_test {l : Launch} {G : z_G} {d : Nat} {a0 : Nat} {x1 : Int32} {h : z_H} {Q : z_Q} (hst : l.stackTraces = false)  (hf : z_L11 h a0 ∧ z_Ct l G (m_X13_sums d) [.ref a0, .int x1] h (z_Qv (fun h_2 => z_L11 h_2 a0 ∧ z_Ct l G m_X13_isSign [.ref a0, .int 60] h_2 (z_Qi (fun x_4 h_5 => z_L11 h_5 a0 ∧ z_Ct l G m_X13_hasSign [.ref a0, .int 60] h_5 (z_Qi (fun x_7 h_8 => (x_7 = 0 → z_L11 h_8 a0 ∧ z_Ct l G m_X13_hasSign [.ref a0, .int 61] h_8 (z_Qi (fun x_14 h_15 => (x_14 = 0 → Q none h_15) ∧ (¬ x_14 = 0 → z_L11 h_15 a0 ∧ z_Ct l G (m_X13_sums d) [.ref a0, .int x1] h_15 (z_Qv (fun h_17 => z_L11 h_17 a0 ∧ z_Ct l G m_X13_emit [.ref a0, .int (if x_4 = 0 then 8 else 7), .int 0] h_17 (z_Qv (fun h_19 => Q none h_19)))))))) ∧ (¬ x_7 = 0 → z_L11 h_8 a0 ∧ z_Ct l G (m_X13_sums d) [.ref a0, .int x1] h_8 (z_Qv (fun h_10 => z_L11 h_10 a0 ∧ z_Ct l G m_X13_emit [.ref a0, .int (if x_4 = 0 then 8 else 7), .int 0] h_10 (z_Qv (fun h_12 => Q none h_12)))))))))))) : z_Ct l G (m_X13_test d) [.ref a0, .int x1] h Q := by
  refine z_Ct.of (ls := [some (.ref a0), some (.int x1), none]) hst rfl (by show plainName yX13_test.cls = true; decide +kernel) (z_le rfl) rfl ?_
  show z_V l G (m_X13_test d) (z_Fm G (m_X13_test d) Q) 0 0 h 0 [some (.ref a0), some (.int x1), none] []
  refine z_aload_n (q := 1) (i := 0) (x := a0) dX13_test_0 rfl rfl rfl ?_
  refine z_iload_n (q := 2) (i := 1) (x := x1) dX13_test_1 rfl rfl rfl ?_
  obtain ⟨g_1, hf⟩ := hf
  refine z_cVv (m_X13_sums d) [.int x1] (a0) (q := 5) (rc2 := 0) (rs2 := 0) (st := []) dX13_test_2 rfl q2014 (oV_X13_sums _) rfl rfl (z_room_of (by first | exact z_le rfl | (simp only [z_M.d, z_M.nL, z_M.lo, m_X13_sums, m_X13_test]; omega)) (by first | exact z_le rfl | (simp only [z_M.d, z_M.nL, z_M.lo, m_X13_sums, m_X13_test]; omega))) (z_le rfl) (z_rcv_of 11 rfl (z_L11_T g_1) rfl) rfl  rfl hf (fun h_2 hf => ?_)
  refine z_aload_n (q := 6) (i := 0) (x := a0) dX13_test_5 rfl rfl rfl ?_
  refine z_bipush (q := 8) (v := 60) dX13_test_6 (by decide) rfl ?_
  obtain ⟨g_3, hf⟩ := hf
  refine z_cVi m_X13_isSign [.int 60] (a0) (q := 11) (rc2 := 0) (rs2 := 0) (st := []) dX13_test_8 rfl q2026 oV_X13_isSign rfl rfl (z_room_of (by first | exact z_le rfl | (simp only [z_M.d, z_M.nL, z_M.lo, m_X13_isSign, m_X13_test]; omega)) (by first | exact z_le rfl | (simp only [z_M.d, z_M.nL, z_M.lo, m_X13_isSign, m_X13_test]; omega))) (z_le rfl) (z_rcv_of 11 rfl (z_L11_T g_3) rfl) rfl  rfl hf (fun x_4 h_5 hf => ?_)
  refine z_istore_n (q := 12) (i := 2) (ls2 := [some (.ref a0), some (.int x1), some (.int x_4)]) (x := x_4) dX13_test_11 rfl (z_lt rfl) rfl rfl ?_
  refine z_aload_n (q := 13) (i := 0) (x := a0) dX13_test_12 rfl rfl rfl ?_
  refine z_bipush (q := 15) (v := 60) dX13_test_13 (by decide) rfl ?_
  obtain ⟨g_6, hf⟩ := hf
  refine z_cVi m_X13_hasSign [.int 60] (a0) (q := 18) (rc2 := 0) (rs2 := 0) (st := []) dX13_test_15 rfl q2034 oV_X13_hasSign rfl rfl (z_room_of (by first | exact z_le rfl | (simp only [z_M.d, z_M.nL, z_M.lo, m_X13_hasSign, m_X13_test]; omega)) (by first | exact z_le rfl | (simp only [z_M.d, z_M.nL, z_M.lo, m_X13_hasSign, m_X13_test]; omega))) (z_le rfl) (z_rcv_of 11 rfl (z_L11_T g_6) rfl) rfl  rfl hf (fun x_7 h_8 hf => ?_)
  refine z_if_ne (q := 21) (tgt := 30) dX13_test_18 rfl rfl (fun hc => ?_) (fun hc => ?_)
  · have hf := hf.2 hc
    refine z_aload_n (q := 31) (i := 0) (x := a0) dX13_test_30 rfl rfl rfl ?_
    refine z_iload_n (q := 32) (i := 1) (x := x1) dX13_test_31 rfl rfl rfl ?_
    obtain ⟨g_9, hf⟩ := hf
    refine z_cVv (m_X13_sums d) [.int x1] (a0) (q := 35) (rc2 := 0) (rs2 := 0) (st := []) dX13_test_32 rfl q2014 (oV_X13_sums _) rfl rfl (z_room_of (by first | exact z_le rfl | (simp only [z_M.d, z_M.nL, z_M.lo, m_X13_sums, m_X13_test]; omega)) (by first | exact z_le rfl | (simp only [z_M.d, z_M.nL, z_M.lo, m_X13_sums, m_X13_test]; omega))) (z_le rfl) (z_rcv_of 11 rfl (z_L11_T g_9) rfl) rfl  rfl hf (fun h_10 hf => ?_)
    refine z_aload_n (q := 36) (i := 0) (x := a0) dX13_test_35 rfl rfl rfl ?_
    refine z_iload_n (q := 37) (i := 2) (x := x_4) dX13_test_36 rfl rfl rfl ?_
    have hk : z_V l G (m_X13_test d) (z_Fm G (m_X13_test d) Q) 0 0 h_10 47 [some (.ref a0), some (.int x1), some (.int x_4)] [.int (if x_4 = 0 then 8 else 7), .ref a0] := by
      refine z_iconst (q := 48) (v := 0) dX13_test_47 rfl rfl ?_
      obtain ⟨g_11, hf⟩ := hf
      refine z_cVv m_X13_emit [.int (if x_4 = 0 then 8 else 7), .int 0] (a0) (q := 51) (rc2 := 0) (rs2 := 0) (st := []) dX13_test_48 rfl q2030 oV_X13_emit rfl rfl (z_room_of (by first | exact z_le rfl | (simp only [z_M.d, z_M.nL, z_M.lo, m_X13_emit, m_X13_test]; omega)) (by first | exact z_le rfl | (simp only [z_M.d, z_M.nL, z_M.lo, m_X13_emit, m_X13_test]; omega))) (z_le rfl) (z_rcv_of 11 rfl (z_L11_T g_11) rfl) rfl  rfl hf (fun h_12 hf => ?_)
      exact z_vret dX13_test_51 rfl hf
    refine z_if_eq (q := 40) (tgt := 45) dX13_test_37 rfl rfl (fun hc => ?_) (fun hc => ?_)
    · have hk := (z_ite hk).1 hc
      refine z_bipush (q := 47) (v := 8) dX13_test_45 (by decide) rfl ?_
      exact hk
    · have hk := (z_ite hk).2 hc
      refine z_bipush (q := 42) (v := 7) dX13_test_40 (by decide) rfl ?_
      refine z_goto (q := 47) dX13_test_42 rfl ?_
      exact hk
  · have hf := hf.1 hc
    refine z_aload_n (q := 22) (i := 0) (x := a0) dX13_test_21 rfl rfl rfl ?_
    refine z_bipush (q := 24) (v := 61) dX13_test_22 (by decide) rfl ?_
    obtain ⟨g_13, hf⟩ := hf
    refine z_cVi m_X13_hasSign [.int 61] (a0) (q := 27) (rc2 := 0) (rs2 := 0) (st := []) dX13_test_24 rfl q2034 oV_X13_hasSign rfl rfl (z_room_of (by first | exact z_le rfl | (simp only [z_M.d, z_M.nL, z_M.lo, m_X13_hasSign, m_X13_test]; omega)) (by first | exact z_le rfl | (simp only [z_M.d, z_M.nL, z_M.lo, m_X13_hasSign, m_X13_test]; omega))) (z_le rfl) (z_rcv_of 11 rfl (z_L11_T g_13) rfl) rfl  rfl hf (fun x_14 h_15 hf => ?_)
    refine z_if_eq (q := 30) (tgt := 51) dX13_test_27 rfl rfl (fun hc => ?_) (fun hc => ?_)
    · have hf := hf.1 hc
      exact z_vret dX13_test_51 rfl hf
    · have hf := hf.2 hc
      refine z_aload_n (q := 31) (i := 0) (x := a0) dX13_test_30 rfl rfl rfl ?_
      refine z_iload_n (q := 32) (i := 1) (x := x1) dX13_test_31 rfl rfl rfl ?_
      obtain ⟨g_16, hf⟩ := hf
      refine z_cVv (m_X13_sums d) [.int x1] (a0) (q := 35) (rc2 := 0) (rs2 := 0) (st := []) dX13_test_32 rfl q2014 (oV_X13_sums _) rfl rfl (z_room_of (by first | exact z_le rfl | (simp only [z_M.d, z_M.nL, z_M.lo, m_X13_sums, m_X13_test]; omega)) (by first | exact z_le rfl | (simp only [z_M.d, z_M.nL, z_M.lo, m_X13_sums, m_X13_test]; omega))) (z_le rfl) (z_rcv_of 11 rfl (z_L11_T g_16) rfl) rfl  rfl hf (fun h_17 hf => ?_)
      refine z_aload_n (q := 36) (i := 0) (x := a0) dX13_test_35 rfl rfl rfl ?_
      refine z_iload_n (q := 37) (i := 2) (x := x_4) dX13_test_36 rfl rfl rfl ?_
      have hk : z_V l G (m_X13_test d) (z_Fm G (m_X13_test d) Q) 0 0 h_17 47 [some (.ref a0), some (.int x1), some (.int x_4)] [.int (if x_4 = 0 then 8 else 7), .ref a0] := by
        refine z_iconst (q := 48) (v := 0) dX13_test_47 rfl rfl ?_
        obtain ⟨g_18, hf⟩ := hf
        refine z_cVv m_X13_emit [.int (if x_4 = 0 then 8 else 7), .int 0] (a0) (q := 51) (rc2 := 0) (rs2 := 0) (st := []) dX13_test_48 rfl q2030 oV_X13_emit rfl rfl (z_room_of (by first | exact z_le rfl | (simp only [z_M.d, z_M.nL, z_M.lo, m_X13_emit, m_X13_test]; omega)) (by first | exact z_le rfl | (simp only [z_M.d, z_M.nL, z_M.lo, m_X13_emit, m_X13_test]; omega))) (z_le rfl) (z_rcv_of 11 rfl (z_L11_T g_18) rfl) rfl  rfl hf (fun h_19 hf => ?_)
        exact z_vret dX13_test_51 rfl hf
      refine z_if_eq (q := 40) (tgt := 45) dX13_test_37 rfl rfl (fun hc => ?_) (fun hc => ?_)
      · have hk := (z_ite hk).1 hc
        refine z_bipush (q := 47) (v := 8) dX13_test_45 (by decide) rfl ?_
        exact hk
      · have hk := (z_ite hk).2 hc
        refine z_bipush (q := 42) (v := 7) dX13_test_40 (by decide) rfl ?_
        refine z_goto (q := 47) dX13_test_42 rfl ?_
        exact hk

theorem u_X13_thrown {l : Launch} {G : z_G} {a0 : Nat} {h : z_H} {Q : z_Q} (hst : l.stackTraces = false)  (hf : z_L11 h a0 ∧ Q (some (.int (h.I a0 0))) h) : z_Ct l G m_X13_thrown [.ref a0] h Q := by
  refine z_Ct.of (ls := [some (.ref a0)]) hst rfl (by show plainName yX13_thrown.cls = true; decide +kernel) (z_le rfl) rfl ?_
  show z_V l G m_X13_thrown (z_Fm G m_X13_thrown Q) 0 0 h 0 [some (.ref a0)] []
  refine z_aload_n (q := 1) (i := 0) (x := a0) dX13_thrown_0 rfl rfl rfl ?_
  obtain ⟨g_1, hf⟩ := hf
  refine z_get 11 0 (q := 4) (v := .int (h.I a0 0)) rfl (z_lt rfl) (z_L11_T g_1) q1758 dX13_thrown_1 rfl rfl ?_
  exact z_iret dX13_thrown_4 rfl hf

theorem u_X13_turn {l : Launch} {G : z_G} {a0 : Nat} {x1 : Int32} {h : z_H} {Q : z_Q} (hst : l.stackTraces = false)  (hf : z_L11 h a0 ∧ z_Ct l G m_X13_within [.int x1, .int 1, .int 1000] (h.sI a0 0 0) (z_Qi (fun x_2 h_3 => (x_2 = 0 → Q (some (.int (-1))) h_3) ∧ (¬ x_2 = 0 → z_L11 h_3 a0 ∧ vp_in 8 16560 ∧ ((h_3.I (a0 + 16) (Int32.toNatClampNeg 8)) < 0 → z_Ct l G m_X13_keeps [.ref a0] h_3 (z_Qv (fun h_6 => z_V l G m_X13_turn (z_Fm G m_X13_turn Q) 0 0 h_6 36 [some (.ref a0), some (.int x1), some (.int 0)] []))) ∧ (¬ (h_3.I (a0 + 16) (Int32.toNatClampNeg 8)) < 0 → Q (some (.int 0)) h_3))))) : z_Ct l G m_X13_turn [.ref a0, .int x1] h Q := by
  refine z_Ct.of (ls := [some (.ref a0), some (.int x1), none]) hst rfl (by show plainName yX13_turn.cls = true; decide +kernel) (z_le rfl) rfl ?_
  show z_V l G m_X13_turn (z_Fm G m_X13_turn Q) 0 0 h 0 [some (.ref a0), some (.int x1), none] []
  refine z_aload_n (q := 1) (i := 0) (x := a0) dX13_turn_0 rfl rfl rfl ?_
  refine z_iconst (q := 2) (v := 0) dX13_turn_1 rfl rfl ?_
  obtain ⟨g_1, hf⟩ := hf
  refine z_putI 11 0 (q := 5) (x := 0) (v := .int 0) rfl (z_lt rfl) (z_L11_T g_1) q1758 rfl dX13_turn_2 rfl rfl rfl rfl (fun _ _ _ => rfl) ?_
  refine z_iload_n (q := 6) (i := 1) (x := x1) dX13_turn_5 rfl rfl rfl ?_
  refine z_iconst (q := 7) (v := 1) dX13_turn_6 rfl rfl ?_
  refine z_sipush (q := 10) (v := 1000) dX13_turn_7 (by decide) rfl ?_
  refine z_cSi m_X13_within [.int x1, .int 1, .int 1000] (q := 13) (rc2 := 0) (rs2 := 0) (st := []) dX13_turn_10 rfl q2074 oS_X13_within rfl rfl ⟨z_le rfl, z_le rfl⟩ (z_le rfl) rfl  rfl hf (fun x_2 h_3 hf => ?_)
  refine z_if_ne (q := 16) (tgt := 18) dX13_turn_13 rfl rfl (fun hc => ?_) (fun hc => ?_)
  · have hf := hf.2 hc
    refine z_aload_n (q := 19) (i := 0) (x := a0) dX13_turn_18 rfl rfl rfl ?_
    obtain ⟨g_4, hf⟩ := hf
    refine z_get 11 22 (q := 22) (v := .ref (a0 + 16)) rfl (z_lt rfl) (z_L11_T g_4) q1780 dX13_turn_19 rfl (z_fvR (fun _ _ _ => rfl) (z_L11_P22 g_4)) ?_
    refine z_bipush (q := 24) (v := 8) dX13_turn_22 (by decide) rfl ?_
    obtain ⟨g_5, hf⟩ := hf
    refine z_iald (q := 25) (n := 16560) (z_L11_A22 g_4) g_5 dX13_turn_24 rfl ?_
    refine z_if_lt (q := 28) (tgt := 30) dX13_turn_25 rfl rfl (fun hc => ?_) (fun hc => ?_)
    · have hf := hf.1 hc
      refine z_aload_n (q := 31) (i := 0) (x := a0) dX13_turn_30 rfl rfl rfl ?_
      refine z_cVv m_X13_keeps [] (a0) (q := 34) (rc2 := 0) (rs2 := 0) (st := []) dX13_turn_31 rfl q2100 oV_X13_keeps rfl rfl ⟨z_le rfl, z_le rfl⟩ (z_le rfl) (z_rcv_of 11 rfl (z_L11_T g_4) rfl) rfl  rfl hf (fun h_6 hf => ?_)
      refine z_iconst (q := 35) (v := 0) dX13_turn_34 rfl rfl ?_
      refine z_istore_n (q := 36) (i := 2) (ls2 := [some (.ref a0), some (.int x1), some (.int 0)]) (x := 0) dX13_turn_35 rfl (z_lt rfl) rfl rfl ?_
      exact hf
    · have hf := hf.2 hc
      refine z_iconst (q := 29) (v := 0) dX13_turn_28 rfl rfl ?_
      exact z_iret dX13_turn_29 rfl hf
  · have hf := hf.1 hc
    refine z_iconst (q := 17) (v := (-1)) dX13_turn_16 rfl rfl ?_
    exact z_iret dX13_turn_17 rfl hf

theorem b_X13_turn_36 {l : Launch} {G : z_G} {a0 : Nat} {x1 : Int32} {x2 : Int32} {h : z_H} {Q : z_Q}  (hf : (x1 ≤ x2 → Q (some (.int x2)) h) ∧ (¬ x1 ≤ x2 → z_L11 h a0 ∧ z_Ct l G m_X13_isWon [.ref a0, .int 0] h (z_Qi (fun x_2 h_3 => (x_2 = 0 → z_L11 h_3 a0 ∧ z_Ct l G m_X13_plays [.ref a0, .int 0] h_3 (z_Qv (fun h_5 => z_V l G m_X13_turn (z_Fm G m_X13_turn Q) 0 0 h_5 36 [some (.ref a0), some (.int x1), some (.int (x2 + 1))] []))) ∧ (¬ x_2 = 0 → Q (some (.int x2)) h_3))))) : z_V l G m_X13_turn (z_Fm G m_X13_turn Q) 0 0 h 36 [some (.ref a0), some (.int x1), some (.int x2)] [] := by
  refine z_iload_n (q := 37) (i := 2) (x := x2) dX13_turn_36 rfl rfl rfl ?_
  refine z_iload_n (q := 38) (i := 1) (x := x1) dX13_turn_37 rfl rfl rfl ?_
  refine z_icmp_ge (q := 41) (tgt := 60) dX13_turn_38 rfl rfl (fun hc => ?_) (fun hc => ?_)
  · have hf := hf.1 hc
    refine z_iload_n (q := 61) (i := 2) (x := x2) dX13_turn_60 rfl rfl rfl ?_
    exact z_iret dX13_turn_61 rfl hf
  · have hf := hf.2 hc
    refine z_aload_n (q := 42) (i := 0) (x := a0) dX13_turn_41 rfl rfl rfl ?_
    refine z_iconst (q := 43) (v := 0) dX13_turn_42 rfl rfl ?_
    obtain ⟨g_1, hf⟩ := hf
    refine z_cVi m_X13_isWon [.int 0] (a0) (q := 46) (rc2 := 0) (rs2 := 0) (st := []) dX13_turn_43 rfl q2108 oV_X13_isWon rfl rfl ⟨z_le rfl, z_le rfl⟩ (z_le rfl) (z_rcv_of 11 rfl (z_L11_T g_1) rfl) rfl  rfl hf (fun x_2 h_3 hf => ?_)
    refine z_if_ne (q := 49) (tgt := 60) dX13_turn_46 rfl rfl (fun hc => ?_) (fun hc => ?_)
    · have hf := hf.2 hc
      refine z_iload_n (q := 61) (i := 2) (x := x2) dX13_turn_60 rfl rfl rfl ?_
      exact z_iret dX13_turn_61 rfl hf
    · have hf := hf.1 hc
      refine z_aload_n (q := 50) (i := 0) (x := a0) dX13_turn_49 rfl rfl rfl ?_
      refine z_iconst (q := 51) (v := 0) dX13_turn_50 rfl rfl ?_
      obtain ⟨g_4, hf⟩ := hf
      refine z_cVv m_X13_plays [.int 0] (a0) (q := 54) (rc2 := 0) (rs2 := 0) (st := []) dX13_turn_51 rfl q2112 oV_X13_plays rfl rfl ⟨z_le rfl, z_le rfl⟩ (z_le rfl) (z_rcv_of 11 rfl (z_L11_T g_4) rfl) rfl  rfl hf (fun h_5 hf => ?_)
      refine z_iinc (q := 57) (i := 2) (x := x2) (v := (x2 + 1)) (ls2 := [some (.ref a0), some (.int x1), some (.int (x2 + 1))]) dX13_turn_54 rfl rfl (z_lt rfl) rfl rfl ?_
      refine z_goto (q := 36) dX13_turn_57 rfl ?_
      exact hf

theorem u_X13_turns {l : Launch} {G : z_G} {a0 : Nat} {x1 : Int32} {h : z_H} {Q : z_Q} (hst : l.stackTraces = false)  (hf : z_L11 h a0 ∧ vp_in (x1 + 3) 16560 ∧ ∀ v_3 : Int32, v_3 = (h.I (a0 + 16) (Int32.toNatClampNeg (x1 + 3))) → ∀ v_5 : Int32, v_5 = ((x1 + 20) + (48 * v_3)) → vp_in v_5 16560 ∧ ∀ v_8 : Int32, v_8 = ((h.I (a0 + 16) (Int32.toNatClampNeg v_5)) - (h.I (a0 + 16) (Int32.toNatClampNeg v_5)) / 8 * 8) → z_V l G m_X13_turns (z_Fm G m_X13_turns Q) 0 0 h 33 [some (.ref a0), some (.int x1), some (.int v_3), some (.int v_5), some (.int v_8), some (.int 1)] []) : z_Ct l G m_X13_turns [.ref a0, .int x1] h Q := by
  refine z_Ct.of (ls := [some (.ref a0), some (.int x1), none, none, none, none]) hst rfl (by show plainName yX13_turns.cls = true; decide +kernel) (z_le rfl) rfl ?_
  show z_V l G m_X13_turns (z_Fm G m_X13_turns Q) 0 0 h 0 [some (.ref a0), some (.int x1), none, none, none, none] []
  refine z_aload_n (q := 1) (i := 0) (x := a0) dX13_turns_0 rfl rfl rfl ?_
  obtain ⟨g_1, hf⟩ := hf
  refine z_get 11 22 (q := 4) (v := .ref (a0 + 16)) rfl (z_lt rfl) (z_L11_T g_1) q1780 dX13_turns_1 rfl (z_fvR (fun _ _ _ => rfl) (z_L11_P22 g_1)) ?_
  refine z_iload_n (q := 5) (i := 1) (x := x1) dX13_turns_4 rfl rfl rfl ?_
  refine z_iconst (q := 6) (v := 3) dX13_turns_5 rfl rfl ?_
  refine z_iadd (q := 7) dX13_turns_6 rfl ?_
  obtain ⟨g_2, hf⟩ := hf
  refine z_iald (q := 8) (n := 16560) (z_L11_A22 g_1) g_2 dX13_turns_7 rfl ?_
  refine z_nmI (fun v_3 hv_4 => ?_)
  have hf := hf v_3 hv_4
  refine z_istore_n (q := 9) (i := 2) (ls2 := [some (.ref a0), some (.int x1), some (.int v_3), none, none, none]) (x := v_3) dX13_turns_8 rfl (z_lt rfl) rfl rfl ?_
  refine z_iload_n (q := 10) (i := 1) (x := x1) dX13_turns_9 rfl rfl rfl ?_
  refine z_bipush (q := 12) (v := 20) dX13_turns_10 (by decide) rfl ?_
  refine z_iadd (q := 13) dX13_turns_12 rfl ?_
  refine z_bipush (q := 15) (v := 48) dX13_turns_13 (by decide) rfl ?_
  refine z_iload_n (q := 16) (i := 2) (x := v_3) dX13_turns_15 rfl rfl rfl ?_
  refine z_imul (q := 17) dX13_turns_16 rfl ?_
  refine z_iadd (q := 18) dX13_turns_17 rfl ?_
  refine z_nmI (fun v_5 hv_6 => ?_)
  have hf := hf v_5 hv_6
  refine z_istore_n (q := 19) (i := 3) (ls2 := [some (.ref a0), some (.int x1), some (.int v_3), some (.int v_5), none, none]) (x := v_5) dX13_turns_18 rfl (z_lt rfl) rfl rfl ?_
  refine z_aload_n (q := 20) (i := 0) (x := a0) dX13_turns_19 rfl rfl rfl ?_
  refine z_get 11 22 (q := 23) (v := .ref (a0 + 16)) rfl (z_lt rfl) (z_L11_T g_1) q1780 dX13_turns_20 rfl (z_fvR (fun _ _ _ => rfl) (z_L11_P22 g_1)) ?_
  refine z_iload_n (q := 24) (i := 3) (x := v_5) dX13_turns_23 rfl rfl rfl ?_
  obtain ⟨g_7, hf⟩ := hf
  refine z_iald (q := 25) (n := 16560) (z_L11_A22 g_1) g_7 dX13_turns_24 rfl ?_
  refine z_bipush (q := 27) (v := 8) dX13_turns_25 (by decide) rfl ?_
  refine z_irem (q := 28) dX13_turns_27 (by decide) rfl ?_
  refine z_nmI (fun v_8 hv_9 => ?_)
  have hf := hf v_8 hv_9
  refine z_istore (q := 30) (i := 4) (ls2 := [some (.ref a0), some (.int x1), some (.int v_3), some (.int v_5), some (.int v_8), none]) (x := v_8) dX13_turns_28 (z_lt rfl) rfl rfl ?_
  refine z_iconst (q := 31) (v := 1) dX13_turns_30 rfl rfl ?_
  refine z_istore (q := 33) (i := 5) (ls2 := [some (.ref a0), some (.int x1), some (.int v_3), some (.int v_5), some (.int v_8), some (.int 1)]) (x := 1) dX13_turns_31 (z_lt rfl) rfl rfl ?_
  exact hf

theorem b_X13_turns_33 {l : Launch} {G : z_G} {a0 : Nat} {x1 : Int32} {x2 : Int32} {x3 : Int32} {x4 : Int32} {x5 : Int32} {h : z_H} {Q : z_Q}  (hf : z_L11 h a0 ∧ vp_in ((x1 + 0) + x2) 16560 ∧ ((h.I (a0 + 16) (Int32.toNatClampNeg ((x1 + 0) + x2))) ≤ x5 → vp_in ((x1 + 0) + x2) 16560 ∧ vp_in ((x1 + 0) + x2) 16560 ∧ vp_in (x1 + 2) 16560 ∧ vp_in ((x1 + 116) + ((h.sI (a0 + 16) (Int32.toNatClampNeg ((x1 + 0) + x2)) ((h.I (a0 + 16) (Int32.toNatClampNeg ((x1 + 0) + x2))) - 1)).I (a0 + 16) (Int32.toNatClampNeg (x1 + 2)))) 16560 ∧ vp_in (x1 + 2) 16560 ∧ vp_in (x1 + 2) 16560 ∧ vp_in (x1 + 6) 16560 ∧ vp_in (x1 + 6) 16560 ∧ Q (some (.int x4)) ((((h.sI (a0 + 16) (Int32.toNatClampNeg ((x1 + 0) + x2)) ((h.I (a0 + 16) (Int32.toNatClampNeg ((x1 + 0) + x2))) - 1)).sI (a0 + 16) (Int32.toNatClampNeg ((x1 + 116) + ((h.sI (a0 + 16) (Int32.toNatClampNeg ((x1 + 0) + x2)) ((h.I (a0 + 16) (Int32.toNatClampNeg ((x1 + 0) + x2))) - 1)).I (a0 + 16) (Int32.toNatClampNeg (x1 + 2))))) x4).sI (a0 + 16) (Int32.toNatClampNeg (x1 + 2)) ((((h.sI (a0 + 16) (Int32.toNatClampNeg ((x1 + 0) + x2)) ((h.I (a0 + 16) (Int32.toNatClampNeg ((x1 + 0) + x2))) - 1)).sI (a0 + 16) (Int32.toNatClampNeg ((x1 + 116) + ((h.sI (a0 + 16) (Int32.toNatClampNeg ((x1 + 0) + x2)) ((h.I (a0 + 16) (Int32.toNatClampNeg ((x1 + 0) + x2))) - 1)).I (a0 + 16) (Int32.toNatClampNeg (x1 + 2))))) x4).I (a0 + 16) (Int32.toNatClampNeg (x1 + 2))) + 1)).sI (a0 + 16) (Int32.toNatClampNeg (x1 + 6)) (((((h.sI (a0 + 16) (Int32.toNatClampNeg ((x1 + 0) + x2)) ((h.I (a0 + 16) (Int32.toNatClampNeg ((x1 + 0) + x2))) - 1)).sI (a0 + 16) (Int32.toNatClampNeg ((x1 + 116) + ((h.sI (a0 + 16) (Int32.toNatClampNeg ((x1 + 0) + x2)) ((h.I (a0 + 16) (Int32.toNatClampNeg ((x1 + 0) + x2))) - 1)).I (a0 + 16) (Int32.toNatClampNeg (x1 + 2))))) x4).sI (a0 + 16) (Int32.toNatClampNeg (x1 + 2)) ((((h.sI (a0 + 16) (Int32.toNatClampNeg ((x1 + 0) + x2)) ((h.I (a0 + 16) (Int32.toNatClampNeg ((x1 + 0) + x2))) - 1)).sI (a0 + 16) (Int32.toNatClampNeg ((x1 + 116) + ((h.sI (a0 + 16) (Int32.toNatClampNeg ((x1 + 0) + x2)) ((h.I (a0 + 16) (Int32.toNatClampNeg ((x1 + 0) + x2))) - 1)).I (a0 + 16) (Int32.toNatClampNeg (x1 + 2))))) x4).I (a0 + 16) (Int32.toNatClampNeg (x1 + 2))) + 1)).I (a0 + 16) (Int32.toNatClampNeg (x1 + 6))) + 1))) ∧ (¬ (h.I (a0 + 16) (Int32.toNatClampNeg ((x1 + 0) + x2))) ≤ x5 → vp_in (x3 + x5) 16560 ∧ vp_in ((x3 + x5) - 1) 16560 ∧ z_V l G m_X13_turns (z_Fm G m_X13_turns Q) 0 0 (h.sI (a0 + 16) (Int32.toNatClampNeg ((x3 + x5) - 1)) (h.I (a0 + 16) (Int32.toNatClampNeg (x3 + x5)))) 33 [some (.ref a0), some (.int x1), some (.int x2), some (.int x3), some (.int x4), some (.int (x5 + 1))] [])) : z_V l G m_X13_turns (z_Fm G m_X13_turns Q) 0 0 h 33 [some (.ref a0), some (.int x1), some (.int x2), some (.int x3), some (.int x4), some (.int x5)] [] := by
  refine z_iload (q := 35) (i := 5) (x := x5) dX13_turns_33 rfl rfl ?_
  refine z_aload_n (q := 36) (i := 0) (x := a0) dX13_turns_35 rfl rfl rfl ?_
  obtain ⟨g_1, hf⟩ := hf
  refine z_get 11 22 (q := 39) (v := .ref (a0 + 16)) rfl (z_lt rfl) (z_L11_T g_1) q1780 dX13_turns_36 rfl (z_fvR (fun _ _ _ => rfl) (z_L11_P22 g_1)) ?_
  refine z_iload_n (q := 40) (i := 1) (x := x1) dX13_turns_39 rfl rfl rfl ?_
  refine z_iconst (q := 41) (v := 0) dX13_turns_40 rfl rfl ?_
  refine z_iadd (q := 42) dX13_turns_41 rfl ?_
  refine z_iload_n (q := 43) (i := 2) (x := x2) dX13_turns_42 rfl rfl rfl ?_
  refine z_iadd (q := 44) dX13_turns_43 rfl ?_
  obtain ⟨g_2, hf⟩ := hf
  refine z_iald (q := 45) (n := 16560) (z_L11_A22 g_1) g_2 dX13_turns_44 rfl ?_
  refine z_icmp_ge (q := 48) (tgt := 74) dX13_turns_45 rfl rfl (fun hc => ?_) (fun hc => ?_)
  · have hf := hf.1 hc
    refine z_aload_n (q := 75) (i := 0) (x := a0) dX13_turns_74 rfl rfl rfl ?_
    refine z_get 11 22 (q := 78) (v := .ref (a0 + 16)) rfl (z_lt rfl) (z_L11_T g_1) q1780 dX13_turns_75 rfl (z_fvR (fun _ _ _ => rfl) (z_L11_P22 g_1)) ?_
    refine z_iload_n (q := 79) (i := 1) (x := x1) dX13_turns_78 rfl rfl rfl ?_
    refine z_iconst (q := 80) (v := 0) dX13_turns_79 rfl rfl ?_
    refine z_iadd (q := 81) dX13_turns_80 rfl ?_
    refine z_iload_n (q := 82) (i := 2) (x := x2) dX13_turns_81 rfl rfl rfl ?_
    refine z_iadd (q := 83) dX13_turns_82 rfl ?_
    refine z_dup2 (q := 84) dX13_turns_83 rfl rfl rfl ?_
    obtain ⟨g_3, hf⟩ := hf
    refine z_iald (q := 85) (n := 16560) (z_L11_A22 g_1) g_3 dX13_turns_84 rfl ?_
    refine z_iconst (q := 86) (v := 1) dX13_turns_85 rfl rfl ?_
    refine z_isub (q := 87) dX13_turns_86 rfl ?_
    obtain ⟨g_4, hf⟩ := hf
    refine z_iast (q := 88) (n := 16560) (z_L11_A22 g_1) g_4 dX13_turns_87 rfl ?_
    refine z_aload_n (q := 89) (i := 0) (x := a0) dX13_turns_88 rfl rfl rfl ?_
    refine z_get 11 22 (q := 92) (v := .ref (a0 + 16)) rfl (z_lt rfl) (z_L11_T g_1) q1780 dX13_turns_89 rfl (z_fvR (fun _ _ _ => rfl) (z_L11_P22 g_1)) ?_
    refine z_iload_n (q := 93) (i := 1) (x := x1) dX13_turns_92 rfl rfl rfl ?_
    refine z_bipush (q := 95) (v := 116) dX13_turns_93 (by decide) rfl ?_
    refine z_iadd (q := 96) dX13_turns_95 rfl ?_
    refine z_aload_n (q := 97) (i := 0) (x := a0) dX13_turns_96 rfl rfl rfl ?_
    refine z_get 11 22 (q := 100) (v := .ref (a0 + 16)) rfl (z_lt rfl) (z_L11_T g_1) q1780 dX13_turns_97 rfl (z_fvR (fun _ _ _ => rfl) (z_L11_P22 g_1)) ?_
    refine z_iload_n (q := 101) (i := 1) (x := x1) dX13_turns_100 rfl rfl rfl ?_
    refine z_iconst (q := 102) (v := 2) dX13_turns_101 rfl rfl ?_
    refine z_iadd (q := 103) dX13_turns_102 rfl ?_
    obtain ⟨g_5, hf⟩ := hf
    refine z_iald (q := 104) (n := 16560) (z_L11_A22 g_1) g_5 dX13_turns_103 rfl ?_
    refine z_iadd (q := 105) dX13_turns_104 rfl ?_
    refine z_iload (q := 107) (i := 4) (x := x4) dX13_turns_105 rfl rfl ?_
    obtain ⟨g_6, hf⟩ := hf
    refine z_iast (q := 108) (n := 16560) (z_L11_A22 g_1) g_6 dX13_turns_107 rfl ?_
    refine z_aload_n (q := 109) (i := 0) (x := a0) dX13_turns_108 rfl rfl rfl ?_
    refine z_get 11 22 (q := 112) (v := .ref (a0 + 16)) rfl (z_lt rfl) (z_L11_T g_1) q1780 dX13_turns_109 rfl (z_fvR (fun _ _ _ => rfl) (z_L11_P22 g_1)) ?_
    refine z_iload_n (q := 113) (i := 1) (x := x1) dX13_turns_112 rfl rfl rfl ?_
    refine z_iconst (q := 114) (v := 2) dX13_turns_113 rfl rfl ?_
    refine z_iadd (q := 115) dX13_turns_114 rfl ?_
    refine z_dup2 (q := 116) dX13_turns_115 rfl rfl rfl ?_
    obtain ⟨g_7, hf⟩ := hf
    refine z_iald (q := 117) (n := 16560) (z_L11_A22 g_1) g_7 dX13_turns_116 rfl ?_
    refine z_iconst (q := 118) (v := 1) dX13_turns_117 rfl rfl ?_
    refine z_iadd (q := 119) dX13_turns_118 rfl ?_
    obtain ⟨g_8, hf⟩ := hf
    refine z_iast (q := 120) (n := 16560) (z_L11_A22 g_1) g_8 dX13_turns_119 rfl ?_
    refine z_aload_n (q := 121) (i := 0) (x := a0) dX13_turns_120 rfl rfl rfl ?_
    refine z_get 11 22 (q := 124) (v := .ref (a0 + 16)) rfl (z_lt rfl) (z_L11_T g_1) q1780 dX13_turns_121 rfl (z_fvR (fun _ _ _ => rfl) (z_L11_P22 g_1)) ?_
    refine z_iload_n (q := 125) (i := 1) (x := x1) dX13_turns_124 rfl rfl rfl ?_
    refine z_bipush (q := 127) (v := 6) dX13_turns_125 (by decide) rfl ?_
    refine z_iadd (q := 128) dX13_turns_127 rfl ?_
    refine z_dup2 (q := 129) dX13_turns_128 rfl rfl rfl ?_
    obtain ⟨g_9, hf⟩ := hf
    refine z_iald (q := 130) (n := 16560) (z_L11_A22 g_1) g_9 dX13_turns_129 rfl ?_
    refine z_iconst (q := 131) (v := 1) dX13_turns_130 rfl rfl ?_
    refine z_iadd (q := 132) dX13_turns_131 rfl ?_
    obtain ⟨g_10, hf⟩ := hf
    refine z_iast (q := 133) (n := 16560) (z_L11_A22 g_1) g_10 dX13_turns_132 rfl ?_
    refine z_iload (q := 135) (i := 4) (x := x4) dX13_turns_133 rfl rfl ?_
    exact z_iret dX13_turns_135 rfl hf
  · have hf := hf.2 hc
    refine z_aload_n (q := 49) (i := 0) (x := a0) dX13_turns_48 rfl rfl rfl ?_
    refine z_get 11 22 (q := 52) (v := .ref (a0 + 16)) rfl (z_lt rfl) (z_L11_T g_1) q1780 dX13_turns_49 rfl (z_fvR (fun _ _ _ => rfl) (z_L11_P22 g_1)) ?_
    refine z_iload_n (q := 53) (i := 3) (x := x3) dX13_turns_52 rfl rfl rfl ?_
    refine z_iload (q := 55) (i := 5) (x := x5) dX13_turns_53 rfl rfl ?_
    refine z_iadd (q := 56) dX13_turns_55 rfl ?_
    refine z_iconst (q := 57) (v := 1) dX13_turns_56 rfl rfl ?_
    refine z_isub (q := 58) dX13_turns_57 rfl ?_
    refine z_aload_n (q := 59) (i := 0) (x := a0) dX13_turns_58 rfl rfl rfl ?_
    refine z_get 11 22 (q := 62) (v := .ref (a0 + 16)) rfl (z_lt rfl) (z_L11_T g_1) q1780 dX13_turns_59 rfl (z_fvR (fun _ _ _ => rfl) (z_L11_P22 g_1)) ?_
    refine z_iload_n (q := 63) (i := 3) (x := x3) dX13_turns_62 rfl rfl rfl ?_
    refine z_iload (q := 65) (i := 5) (x := x5) dX13_turns_63 rfl rfl ?_
    refine z_iadd (q := 66) dX13_turns_65 rfl ?_
    obtain ⟨g_11, hf⟩ := hf
    refine z_iald (q := 67) (n := 16560) (z_L11_A22 g_1) g_11 dX13_turns_66 rfl ?_
    obtain ⟨g_12, hf⟩ := hf
    refine z_iast (q := 68) (n := 16560) (z_L11_A22 g_1) g_12 dX13_turns_67 rfl ?_
    refine z_iinc (q := 71) (i := 5) (x := x5) (v := (x5 + 1)) (ls2 := [some (.ref a0), some (.int x1), some (.int x2), some (.int x3), some (.int x4), some (.int (x5 + 1))]) dX13_turns_68 rfl rfl (z_lt rfl) rfl rfl ?_
    refine z_goto (q := 33) dX13_turns_71 rfl ?_
    exact hf

theorem u_X13_undo {l : Launch} {G : z_G} {a0 : Nat} {h : z_H} {Q : z_Q} (hst : l.stackTraces = false)  (hf : z_L11 h a0 ∧ ((h.I a0 23) = 0 → Q (some (.int 0)) (h.sI a0 0 0)) ∧ (¬ (h.I a0 23) = 0 → z_Ct l G m_X13_copies [.ref a0, .int (460 * (5 + ((h.I a0 23) - 1))), .int 0, .int 460] ((h.sI a0 0 0).sI a0 23 ((h.I a0 23) - 1)) (z_Qv (fun h_2 => Q (some (.int 1)) h_2)))) : z_Ct l G m_X13_undo [.ref a0] h Q := by
  refine z_Ct.of (ls := [some (.ref a0)]) hst rfl (by show plainName yX13_undo.cls = true; decide +kernel) (z_le rfl) rfl ?_
  show z_V l G m_X13_undo (z_Fm G m_X13_undo Q) 0 0 h 0 [some (.ref a0)] []
  refine z_aload_n (q := 1) (i := 0) (x := a0) dX13_undo_0 rfl rfl rfl ?_
  refine z_iconst (q := 2) (v := 0) dX13_undo_1 rfl rfl ?_
  obtain ⟨g_1, hf⟩ := hf
  refine z_putI 11 0 (q := 5) (x := 0) (v := .int 0) rfl (z_lt rfl) (z_L11_T g_1) q1758 rfl dX13_undo_2 rfl rfl rfl rfl (fun _ _ _ => rfl) ?_
  refine z_aload_n (q := 6) (i := 0) (x := a0) dX13_undo_5 rfl rfl rfl ?_
  refine z_get 11 23 (q := 9) (v := .int (h.I a0 23)) rfl (z_lt rfl) (z_L11_T g_1) q1781 dX13_undo_6 rfl (congrArg Value.int (z_rIf (by decide))) ?_
  refine z_if_ne (q := 12) (tgt := 14) dX13_undo_9 rfl rfl (fun hc => ?_) (fun hc => ?_)
  · have hf := hf.2 hc
    refine z_aload_n (q := 15) (i := 0) (x := a0) dX13_undo_14 rfl rfl rfl ?_
    refine z_dup (q := 16) dX13_undo_15 rfl rfl ?_
    refine z_get 11 23 (q := 19) (v := .int (h.I a0 23)) rfl (z_lt rfl) (z_L11_T g_1) q1781 dX13_undo_16 rfl (congrArg Value.int (z_rIf (by decide))) ?_
    refine z_iconst (q := 20) (v := 1) dX13_undo_19 rfl rfl ?_
    refine z_isub (q := 21) dX13_undo_20 rfl ?_
    refine z_putI 11 23 (q := 24) (x := ((h.I a0 23) - 1)) (v := .int ((h.I a0 23) - 1)) rfl (z_lt rfl) (z_L11_T g_1) q1781 rfl dX13_undo_21 rfl rfl rfl rfl (fun _ _ _ => rfl) ?_
    refine z_aload_n (q := 25) (i := 0) (x := a0) dX13_undo_24 rfl rfl rfl ?_
    refine z_sipush (q := 28) (v := 460) dX13_undo_25 (by decide) rfl ?_
    refine z_iconst (q := 29) (v := 5) dX13_undo_28 rfl rfl ?_
    refine z_aload_n (q := 30) (i := 0) (x := a0) dX13_undo_29 rfl rfl rfl ?_
    refine z_get 11 23 (q := 33) (v := .int ((h.I a0 23) - 1)) rfl (z_lt rfl) (z_L11_T g_1) q1781 dX13_undo_30 rfl (congrArg Value.int z_rIs) ?_
    refine z_iadd (q := 34) dX13_undo_33 rfl ?_
    refine z_imul (q := 35) dX13_undo_34 rfl ?_
    refine z_iconst (q := 36) (v := 0) dX13_undo_35 rfl rfl ?_
    refine z_sipush (q := 39) (v := 460) dX13_undo_36 (by decide) rfl ?_
    refine z_cVv m_X13_copies [.int (460 * (5 + ((h.I a0 23) - 1))), .int 0, .int 460] (a0) (q := 42) (rc2 := 0) (rs2 := 0) (st := []) dX13_undo_39 rfl q2104 oV_X13_copies rfl rfl ⟨z_le rfl, z_le rfl⟩ (z_le rfl) (z_rcv_of 11 rfl (z_L11_T g_1) rfl) rfl  rfl hf (fun h_2 hf => ?_)
    refine z_iconst (q := 43) (v := 1) dX13_undo_42 rfl rfl ?_
    exact z_zret dX13_undo_43 rfl (z_nb01 z_b1) hf
  · have hf := hf.1 hc
    refine z_iconst (q := 13) (v := 0) dX13_undo_12 rfl rfl ?_
    exact z_zret dX13_undo_13 rfl (z_nb01 z_b0) hf

theorem u_X13_unseen {l : Launch} {G : z_G} {a0 : Nat} {x1 : Int32} {h : z_H} {Q : z_Q} (hst : l.stackTraces = false)  (hf : z_L11 h a0 ∧ z_Ct l G m_X13_isSide [.int x1] (h.sI a0 0 0) (z_Qi (fun x_2 h_3 => (x_2 = 0 → Q (some (.int (-1))) h_3) ∧ (¬ x_2 = 0 → z_V l G m_X13_unseen (z_Fm G m_X13_unseen Q) 0 0 h_3 18 [some (.ref a0), some (.int x1), some (.int 0), some (.int 0)] [])))) : z_Ct l G m_X13_unseen [.ref a0, .int x1] h Q := by
  refine z_Ct.of (ls := [some (.ref a0), some (.int x1), none, none]) hst rfl (by show plainName yX13_unseen.cls = true; decide +kernel) (z_le rfl) rfl ?_
  show z_V l G m_X13_unseen (z_Fm G m_X13_unseen Q) 0 0 h 0 [some (.ref a0), some (.int x1), none, none] []
  refine z_aload_n (q := 1) (i := 0) (x := a0) dX13_unseen_0 rfl rfl rfl ?_
  refine z_iconst (q := 2) (v := 0) dX13_unseen_1 rfl rfl ?_
  obtain ⟨g_1, hf⟩ := hf
  refine z_putI 11 0 (q := 5) (x := 0) (v := .int 0) rfl (z_lt rfl) (z_L11_T g_1) q1758 rfl dX13_unseen_2 rfl rfl rfl rfl (fun _ _ _ => rfl) ?_
  refine z_iload_n (q := 6) (i := 1) (x := x1) dX13_unseen_5 rfl rfl rfl ?_
  refine z_cSi m_X13_isSide [.int x1] (q := 9) (rc2 := 0) (rs2 := 0) (st := []) dX13_unseen_6 rfl q2085 oS_X13_isSide rfl rfl ⟨z_le rfl, z_le rfl⟩ (z_le rfl) rfl  rfl hf (fun x_2 h_3 hf => ?_)
  refine z_if_ne (q := 12) (tgt := 14) dX13_unseen_9 rfl rfl (fun hc => ?_) (fun hc => ?_)
  · have hf := hf.2 hc
    refine z_iconst (q := 15) (v := 0) dX13_unseen_14 rfl rfl ?_
    refine z_istore_n (q := 16) (i := 2) (ls2 := [some (.ref a0), some (.int x1), some (.int 0), none]) (x := 0) dX13_unseen_15 rfl (z_lt rfl) rfl rfl ?_
    refine z_iconst (q := 17) (v := 0) dX13_unseen_16 rfl rfl ?_
    refine z_istore_n (q := 18) (i := 3) (ls2 := [some (.ref a0), some (.int x1), some (.int 0), some (.int 0)]) (x := 0) dX13_unseen_17 rfl (z_lt rfl) rfl rfl ?_
    exact hf
  · have hf := hf.1 hc
    refine z_iconst (q := 13) (v := (-1)) dX13_unseen_12 rfl rfl ?_
    exact z_iret dX13_unseen_13 rfl hf

theorem b_X13_unseen_18 {l : Launch} {G : z_G} {a0 : Nat} {x1 : Int32} {x2 : Int32} {x3 : Int32} {h : z_H} {Q : z_Q}  (hf : z_L11 h a0 ∧ vp_in (0 + x1) 16560 ∧ ((h.I (a0 + 16) (Int32.toNatClampNeg (0 + x1))) ≤ x3 → Q (some (.int x2)) h) ∧ (¬ (h.I (a0 + 16) (Int32.toNatClampNeg (0 + x1))) ≤ x3 → vp_in ((20 + (48 * x1)) + x3) 16560 ∧ ∀ v_4 : Int32, v_4 = (x2 + (if (h.I (a0 + 16) (Int32.toNatClampNeg ((20 + (48 * x1)) + x3))) < 8 then 0 else 1)) → z_V l G m_X13_unseen (z_Fm G m_X13_unseen Q) 0 0 h 18 [some (.ref a0), some (.int x1), some (.int v_4), some (.int (x3 + 1))] [])) : z_V l G m_X13_unseen (z_Fm G m_X13_unseen Q) 0 0 h 18 [some (.ref a0), some (.int x1), some (.int x2), some (.int x3)] [] := by
  refine z_iload_n (q := 19) (i := 3) (x := x3) dX13_unseen_18 rfl rfl rfl ?_
  refine z_aload_n (q := 20) (i := 0) (x := a0) dX13_unseen_19 rfl rfl rfl ?_
  obtain ⟨g_1, hf⟩ := hf
  refine z_get 11 22 (q := 23) (v := .ref (a0 + 16)) rfl (z_lt rfl) (z_L11_T g_1) q1780 dX13_unseen_20 rfl (z_fvR (fun _ _ _ => rfl) (z_L11_P22 g_1)) ?_
  refine z_iconst (q := 24) (v := 0) dX13_unseen_23 rfl rfl ?_
  refine z_iload_n (q := 25) (i := 1) (x := x1) dX13_unseen_24 rfl rfl rfl ?_
  refine z_iadd (q := 26) dX13_unseen_25 rfl ?_
  obtain ⟨g_2, hf⟩ := hf
  refine z_iald (q := 27) (n := 16560) (z_L11_A22 g_1) g_2 dX13_unseen_26 rfl ?_
  refine z_icmp_ge (q := 30) (tgt := 63) dX13_unseen_27 rfl rfl (fun hc => ?_) (fun hc => ?_)
  · have hf := hf.1 hc
    refine z_iload_n (q := 64) (i := 2) (x := x2) dX13_unseen_63 rfl rfl rfl ?_
    exact z_iret dX13_unseen_64 rfl hf
  · have hf := hf.2 hc
    refine z_iload_n (q := 31) (i := 2) (x := x2) dX13_unseen_30 rfl rfl rfl ?_
    refine z_aload_n (q := 32) (i := 0) (x := a0) dX13_unseen_31 rfl rfl rfl ?_
    refine z_get 11 22 (q := 35) (v := .ref (a0 + 16)) rfl (z_lt rfl) (z_L11_T g_1) q1780 dX13_unseen_32 rfl (z_fvR (fun _ _ _ => rfl) (z_L11_P22 g_1)) ?_
    refine z_bipush (q := 37) (v := 20) dX13_unseen_35 (by decide) rfl ?_
    refine z_bipush (q := 39) (v := 48) dX13_unseen_37 (by decide) rfl ?_
    refine z_iload_n (q := 40) (i := 1) (x := x1) dX13_unseen_39 rfl rfl rfl ?_
    refine z_imul (q := 41) dX13_unseen_40 rfl ?_
    refine z_iadd (q := 42) dX13_unseen_41 rfl ?_
    refine z_iload_n (q := 43) (i := 3) (x := x3) dX13_unseen_42 rfl rfl rfl ?_
    refine z_iadd (q := 44) dX13_unseen_43 rfl ?_
    obtain ⟨g_3, hf⟩ := hf
    refine z_iald (q := 45) (n := 16560) (z_L11_A22 g_1) g_3 dX13_unseen_44 rfl ?_
    refine z_bipush (q := 47) (v := 8) dX13_unseen_45 (by decide) rfl ?_
    have hk : z_V l G m_X13_unseen (z_Fm G m_X13_unseen Q) 0 0 h 55 [some (.ref a0), some (.int x1), some (.int x2), some (.int x3)] [.int (if (h.I (a0 + 16) (Int32.toNatClampNeg ((20 + (48 * x1)) + x3))) < 8 then 0 else 1), .int x2] := by
      refine z_iadd (q := 56) dX13_unseen_55 rfl ?_
      refine z_nmI (fun v_4 hv_5 => ?_)
      have hf := hf v_4 hv_5
      refine z_istore_n (q := 57) (i := 2) (ls2 := [some (.ref a0), some (.int x1), some (.int v_4), some (.int x3)]) (x := v_4) dX13_unseen_56 rfl (z_lt rfl) rfl rfl ?_
      refine z_iinc (q := 60) (i := 3) (x := x3) (v := (x3 + 1)) (ls2 := [some (.ref a0), some (.int x1), some (.int v_4), some (.int (x3 + 1))]) dX13_unseen_57 rfl rfl (z_lt rfl) rfl rfl ?_
      refine z_goto (q := 18) dX13_unseen_60 rfl ?_
      exact hf
    refine z_icmp_lt (q := 50) (tgt := 54) dX13_unseen_47 rfl rfl (fun hc => ?_) (fun hc => ?_)
    · have hk := (z_ite hk).1 hc
      refine z_iconst (q := 55) (v := 0) dX13_unseen_54 rfl rfl ?_
      exact hk
    · have hk := (z_ite hk).2 hc
      refine z_iconst (q := 51) (v := 1) dX13_unseen_50 rfl rfl ?_
      refine z_goto (q := 55) dX13_unseen_51 rfl ?_
      exact hk

theorem u_X13_within {l : Launch} {G : z_G} {x0 : Int32} {x1 : Int32} {x2 : Int32} {h : z_H} {Q : z_Q} (hst : l.stackTraces = false)  (hf : Q (some (.int (if x0 < x1 then 0 else (if x2 < x0 then 0 else 1)))) h) : z_Ct l G m_X13_within [.int x0, .int x1, .int x2] h Q := by
  refine z_Ct.of (ls := [some (.int x0), some (.int x1), some (.int x2)]) hst rfl (by show plainName yX13_within.cls = true; decide +kernel) (z_le rfl) rfl ?_
  show z_V l G m_X13_within (z_Fm G m_X13_within Q) 0 0 h 0 [some (.int x0), some (.int x1), some (.int x2)] []
  refine z_iload_n (q := 1) (i := 0) (x := x0) dX13_within_0 rfl rfl rfl ?_
  refine z_iload_n (q := 2) (i := 1) (x := x1) dX13_within_1 rfl rfl rfl ?_
  have hk : z_V l G m_X13_within (z_Fm G m_X13_within Q) 0 0 h 15 [some (.int x0), some (.int x1), some (.int x2)] [.int (if x0 < x1 then 0 else (if x2 < x0 then 0 else 1))] := by
    exact z_zret dX13_within_15 rfl (z_nb01 (z_bif z_b0 (z_bif z_b0 z_b1))) hf
  refine z_icmp_lt (q := 5) (tgt := 14) dX13_within_2 rfl rfl (fun hc => ?_) (fun hc => ?_)
  · have hk := (z_ite hk).1 hc
    refine z_iconst (q := 15) (v := 0) dX13_within_14 rfl rfl ?_
    exact hk
  · have hk := (z_ite hk).2 hc
    refine z_iload_n (q := 6) (i := 0) (x := x0) dX13_within_5 rfl rfl rfl ?_
    refine z_iload_n (q := 7) (i := 2) (x := x2) dX13_within_6 rfl rfl rfl ?_
    refine z_icmp_gt (q := 10) (tgt := 14) dX13_within_7 rfl rfl (fun hc => ?_) (fun hc => ?_)
    · have hk := (z_ite hk).1 hc
      refine z_iconst (q := 15) (v := 0) dX13_within_14 rfl rfl ?_
      exact hk
    · have hk := (z_ite hk).2 hc
      refine z_iconst (q := 11) (v := 1) dX13_within_10 rfl rfl ?_
      refine z_goto (q := 15) dX13_within_11 rfl ?_
      exact hk

theorem u_X13_wordHere {l : Launch} {G : z_G} {a0 : Nat} {x1 : Int32} {x2 : Int32} {h : z_H} {Q : z_Q} (hst : l.stackTraces = false)  (hf : z_V l G m_X13_wordHere (z_Fm G m_X13_wordHere Q) 0 0 h 5 [some (.ref a0), some (.int x1), some (.int x2), some (.int (-1)), some (.int 0)] []) : z_Ct l G m_X13_wordHere [.ref a0, .int x1, .int x2] h Q := by
  refine z_Ct.of (ls := [some (.ref a0), some (.int x1), some (.int x2), none, none]) hst rfl (by show plainName yX13_wordHere.cls = true; decide +kernel) (z_le rfl) rfl ?_
  show z_V l G m_X13_wordHere (z_Fm G m_X13_wordHere Q) 0 0 h 0 [some (.ref a0), some (.int x1), some (.int x2), none, none] []
  refine z_iconst (q := 1) (v := (-1)) dX13_wordHere_0 rfl rfl ?_
  refine z_istore_n (q := 2) (i := 3) (ls2 := [some (.ref a0), some (.int x1), some (.int x2), some (.int (-1)), none]) (x := (-1)) dX13_wordHere_1 rfl (z_lt rfl) rfl rfl ?_
  refine z_iconst (q := 3) (v := 0) dX13_wordHere_2 rfl rfl ?_
  refine z_istore (q := 5) (i := 4) (ls2 := [some (.ref a0), some (.int x1), some (.int x2), some (.int (-1)), some (.int 0)]) (x := 0) dX13_wordHere_3 (z_lt rfl) rfl rfl ?_
  exact hf

theorem b_X13_wordHere_5 {l : Launch} {G : z_G} {a0 : Nat} {x1 : Int32} {x2 : Int32} {x3 : Int32} {x4 : Int32} {h : z_H} {Q : z_Q}  (hf : (x2 ≤ x4 → Q (some (.int x3)) h) ∧ (¬ x2 ≤ x4 → z_L11 h a0 ∧ z_Ct l G m_X13_isWord [.ref a0, .int (x1 + x4)] h (z_Qi (fun x_2 h_3 => ∀ v_4 : Int32, v_4 = (if x_2 = 0 then x3 else x4) → z_V l G m_X13_wordHere (z_Fm G m_X13_wordHere Q) 0 0 h_3 5 [some (.ref a0), some (.int x1), some (.int x2), some (.int v_4), some (.int (x4 + 1))] [])))) : z_V l G m_X13_wordHere (z_Fm G m_X13_wordHere Q) 0 0 h 5 [some (.ref a0), some (.int x1), some (.int x2), some (.int x3), some (.int x4)] [] := by
  refine z_iload (q := 7) (i := 4) (x := x4) dX13_wordHere_5 rfl rfl ?_
  refine z_iload_n (q := 8) (i := 2) (x := x2) dX13_wordHere_7 rfl rfl rfl ?_
  refine z_icmp_ge (q := 11) (tgt := 35) dX13_wordHere_8 rfl rfl (fun hc => ?_) (fun hc => ?_)
  · have hf := hf.1 hc
    refine z_iload_n (q := 36) (i := 3) (x := x3) dX13_wordHere_35 rfl rfl rfl ?_
    exact z_iret dX13_wordHere_36 rfl hf
  · have hf := hf.2 hc
    refine z_aload_n (q := 12) (i := 0) (x := a0) dX13_wordHere_11 rfl rfl rfl ?_
    refine z_iload_n (q := 13) (i := 1) (x := x1) dX13_wordHere_12 rfl rfl rfl ?_
    refine z_iload (q := 15) (i := 4) (x := x4) dX13_wordHere_13 rfl rfl ?_
    refine z_iadd (q := 16) dX13_wordHere_15 rfl ?_
    obtain ⟨g_1, hf⟩ := hf
    refine z_cVi m_X13_isWord [.int (x1 + x4)] (a0) (q := 19) (rc2 := 0) (rs2 := 0) (st := []) dX13_wordHere_16 rfl q1954 oV_X13_isWord rfl rfl ⟨z_le rfl, z_le rfl⟩ (z_le rfl) (z_rcv_of 11 rfl (z_L11_T g_1) rfl) rfl  rfl hf (fun x_2 h_3 hf => ?_)
    have hk : z_V l G m_X13_wordHere (z_Fm G m_X13_wordHere Q) 0 0 h_3 28 [some (.ref a0), some (.int x1), some (.int x2), some (.int x3), some (.int x4)] [.int (if x_2 = 0 then x3 else x4)] := by
      refine z_nmI (fun v_4 hv_5 => ?_)
      have hf := hf v_4 hv_5
      refine z_istore_n (q := 29) (i := 3) (ls2 := [some (.ref a0), some (.int x1), some (.int x2), some (.int v_4), some (.int x4)]) (x := v_4) dX13_wordHere_28 rfl (z_lt rfl) rfl rfl ?_
      refine z_iinc (q := 32) (i := 4) (x := x4) (v := (x4 + 1)) (ls2 := [some (.ref a0), some (.int x1), some (.int x2), some (.int v_4), some (.int (x4 + 1))]) dX13_wordHere_29 rfl rfl (z_lt rfl) rfl rfl ?_
      refine z_goto (q := 5) dX13_wordHere_32 rfl ?_
      exact hf
    refine z_if_eq (q := 22) (tgt := 27) dX13_wordHere_19 rfl rfl (fun hc => ?_) (fun hc => ?_)
    · have hk := (z_ite hk).1 hc
      refine z_iload_n (q := 28) (i := 3) (x := x3) dX13_wordHere_27 rfl rfl rfl ?_
      exact hk
    · have hk := (z_ite hk).2 hc
      refine z_iload (q := 24) (i := 4) (x := x4) dX13_wordHere_22 rfl rfl ?_
      refine z_goto (q := 28) dX13_wordHere_24 rfl ?_
      exact hk

theorem u_X13_worth {l : Launch} {G : z_G} {a0 : Nat} {x1 : Int32} {x2 : Int32} {h : z_H} {Q : z_Q} (hst : l.stackTraces = false)  (hf : z_L11 h a0 ∧ z_Ct l G m_X13_isKind [.ref a0, .int x1] (h.sI a0 0 0) (z_Qi (fun x_2 h_3 => (x_2 = 0 → Q (some (.int (-1))) h_3) ∧ (¬ x_2 = 0 → z_Ct l G m_X13_within [.int x2, .int 0, .int 1] h_3 (z_Qi (fun x_4 h_5 => (x_4 = 0 → Q (some (.int (-1))) h_5) ∧ (¬ x_4 = 0 → z_L11 h_5 a0 ∧ z_Ct l G m_X13_counts [.ref a0] h_5 (z_Qi (fun x_7 h_8 => (x_7 = 0 → Q (some (.int (-1))) h_8) ∧ (¬ x_7 = 0 → z_L11 h_8 a0 ∧ ∀ v_10 : Int32, v_10 = (((h_8.I a0 41) + 1) / 2) → z_V l G m_X13_worth (z_Fm G m_X13_worth Q) 0 0 h_8 49 [some (.ref a0), some (.int x1), some (.int x2), some (.int v_10), some (.int 0), some (.int 0), some (.int 0), none, none] [])))))))))) : z_Ct l G m_X13_worth [.ref a0, .int x1, .int x2] h Q := by
  refine z_Ct.of (ls := [some (.ref a0), some (.int x1), some (.int x2), none, none, none, none, none, none]) hst rfl (by show plainName yX13_worth.cls = true; decide +kernel) (z_le rfl) rfl ?_
  show z_V l G m_X13_worth (z_Fm G m_X13_worth Q) 0 0 h 0 [some (.ref a0), some (.int x1), some (.int x2), none, none, none, none, none, none] []
  refine z_aload_n (q := 1) (i := 0) (x := a0) dX13_worth_0 rfl rfl rfl ?_
  refine z_iconst (q := 2) (v := 0) dX13_worth_1 rfl rfl ?_
  obtain ⟨g_1, hf⟩ := hf
  refine z_putI 11 0 (q := 5) (x := 0) (v := .int 0) rfl (z_lt rfl) (z_L11_T g_1) q1758 rfl dX13_worth_2 rfl rfl rfl rfl (fun _ _ _ => rfl) ?_
  refine z_aload_n (q := 6) (i := 0) (x := a0) dX13_worth_5 rfl rfl rfl ?_
  refine z_iload_n (q := 7) (i := 1) (x := x1) dX13_worth_6 rfl rfl rfl ?_
  refine z_cVi m_X13_isKind [.int x1] (a0) (q := 10) (rc2 := 0) (rs2 := 0) (st := []) dX13_worth_7 rfl q2066 oV_X13_isKind rfl rfl ⟨z_le rfl, z_le rfl⟩ (z_le rfl) (z_rcv_of 11 rfl (z_L11_T g_1) rfl) rfl  rfl hf (fun x_2 h_3 hf => ?_)
  refine z_if_eq (q := 13) (tgt := 29) dX13_worth_10 rfl rfl (fun hc => ?_) (fun hc => ?_)
  · have hf := hf.1 hc
    refine z_iconst (q := 30) (v := (-1)) dX13_worth_29 rfl rfl ?_
    exact z_iret dX13_worth_30 rfl hf
  · have hf := hf.2 hc
    refine z_iload_n (q := 14) (i := 2) (x := x2) dX13_worth_13 rfl rfl rfl ?_
    refine z_iconst (q := 15) (v := 0) dX13_worth_14 rfl rfl ?_
    refine z_iconst (q := 16) (v := 1) dX13_worth_15 rfl rfl ?_
    refine z_cSi m_X13_within [.int x2, .int 0, .int 1] (q := 19) (rc2 := 0) (rs2 := 0) (st := []) dX13_worth_16 rfl q2074 oS_X13_within rfl rfl ⟨z_le rfl, z_le rfl⟩ (z_le rfl) rfl  rfl hf (fun x_4 h_5 hf => ?_)
    refine z_if_eq (q := 22) (tgt := 29) dX13_worth_19 rfl rfl (fun hc => ?_) (fun hc => ?_)
    · have hf := hf.1 hc
      refine z_iconst (q := 30) (v := (-1)) dX13_worth_29 rfl rfl ?_
      exact z_iret dX13_worth_30 rfl hf
    · have hf := hf.2 hc
      refine z_aload_n (q := 23) (i := 0) (x := a0) dX13_worth_22 rfl rfl rfl ?_
      obtain ⟨g_6, hf⟩ := hf
      refine z_cVi m_X13_counts [] (a0) (q := 26) (rc2 := 0) (rs2 := 0) (st := []) dX13_worth_23 rfl q2190 oV_X13_counts rfl rfl ⟨z_le rfl, z_le rfl⟩ (z_le rfl) (z_rcv_of 11 rfl (z_L11_T g_6) rfl) rfl  rfl hf (fun x_7 h_8 hf => ?_)
      refine z_if_ne (q := 29) (tgt := 31) dX13_worth_26 rfl rfl (fun hc => ?_) (fun hc => ?_)
      · have hf := hf.2 hc
        refine z_aload_n (q := 32) (i := 0) (x := a0) dX13_worth_31 rfl rfl rfl ?_
        obtain ⟨g_9, hf⟩ := hf
        refine z_get 11 41 (q := 35) (v := .int (h_8.I a0 41)) rfl (z_lt rfl) (z_L11_T g_9) q1799 dX13_worth_32 rfl rfl ?_
        refine z_iconst (q := 36) (v := 1) dX13_worth_35 rfl rfl ?_
        refine z_iadd (q := 37) dX13_worth_36 rfl ?_
        refine z_iconst (q := 38) (v := 2) dX13_worth_37 rfl rfl ?_
        refine z_idiv (q := 39) dX13_worth_38 (by decide) rfl ?_
        refine z_nmI (fun v_10 hv_11 => ?_)
        have hf := hf v_10 hv_11
        refine z_istore_n (q := 40) (i := 3) (ls2 := [some (.ref a0), some (.int x1), some (.int x2), some (.int v_10), none, none, none, none, none]) (x := v_10) dX13_worth_39 rfl (z_lt rfl) rfl rfl ?_
        refine z_iconst (q := 41) (v := 0) dX13_worth_40 rfl rfl ?_
        refine z_istore (q := 43) (i := 4) (ls2 := [some (.ref a0), some (.int x1), some (.int x2), some (.int v_10), some (.int 0), none, none, none, none]) (x := 0) dX13_worth_41 (z_lt rfl) rfl rfl ?_
        refine z_iconst (q := 44) (v := 0) dX13_worth_43 rfl rfl ?_
        refine z_istore (q := 46) (i := 5) (ls2 := [some (.ref a0), some (.int x1), some (.int x2), some (.int v_10), some (.int 0), some (.int 0), none, none, none]) (x := 0) dX13_worth_44 (z_lt rfl) rfl rfl ?_
        refine z_iconst (q := 47) (v := 0) dX13_worth_46 rfl rfl ?_
        refine z_istore (q := 49) (i := 6) (ls2 := [some (.ref a0), some (.int x1), some (.int x2), some (.int v_10), some (.int 0), some (.int 0), some (.int 0), none, none]) (x := 0) dX13_worth_47 (z_lt rfl) rfl rfl ?_
        exact hf
      · have hf := hf.1 hc
        refine z_iconst (q := 30) (v := (-1)) dX13_worth_29 rfl rfl ?_
        exact z_iret dX13_worth_30 rfl hf

theorem b_X13_worth_49 {l : Launch} {G : z_G} {a0 : Nat} {x1 : Int32} {x2 : Int32} {x3 : Int32} {x4 : Int32} {x5 : Int32} {x6 : Int32} {h : z_H} {Q : z_Q}  (hf : z_L11 h a0 ∧ ((h.I a0 44) ≤ x6 → Q (some (.int (if x2 = 0 then x5 else x4))) h) ∧ (¬ (h.I a0 44) ≤ x6 → z_V l G m_X13_worth (z_Fm G m_X13_worth Q) 0 0 h 64 [some (.ref a0), some (.int x1), some (.int x2), some (.int x3), some (.int x4), some (.int x5), some (.int x6), some (.int 0), some (.int 0)] [])) : z_V l G m_X13_worth (z_Fm G m_X13_worth Q) 0 0 h 49 [some (.ref a0), some (.int x1), some (.int x2), some (.int x3), some (.int x4), some (.int x5), some (.int x6), none, none] [] := by
  refine z_iload (q := 51) (i := 6) (x := x6) dX13_worth_49 rfl rfl ?_
  refine z_aload_n (q := 52) (i := 0) (x := a0) dX13_worth_51 rfl rfl rfl ?_
  obtain ⟨g_1, hf⟩ := hf
  refine z_get 11 44 (q := 55) (v := .int (h.I a0 44)) rfl (z_lt rfl) (z_L11_T g_1) q1802 dX13_worth_52 rfl rfl ?_
  refine z_icmp_ge (q := 58) (tgt := 169) dX13_worth_55 rfl rfl (fun hc => ?_) (fun hc => ?_)
  · have hf := hf.1 hc
    refine z_iload_n (q := 170) (i := 2) (x := x2) dX13_worth_169 rfl rfl rfl ?_
    have hk : z_V l G m_X13_worth (z_Fm G m_X13_worth Q) 0 0 h 180 [some (.ref a0), some (.int x1), some (.int x2), some (.int x3), some (.int x4), some (.int x5), some (.int x6), none, none] [.int (if x2 = 0 then x5 else x4)] := by
      exact z_iret dX13_worth_180 rfl hf
    refine z_if_ne (q := 173) (tgt := 178) dX13_worth_170 rfl rfl (fun hc => ?_) (fun hc => ?_)
    · have hk := (z_ite hk).2 hc
      refine z_iload (q := 180) (i := 4) (x := x4) dX13_worth_178 rfl rfl ?_
      exact hk
    · have hk := (z_ite hk).1 hc
      refine z_iload (q := 175) (i := 5) (x := x5) dX13_worth_173 rfl rfl ?_
      refine z_goto (q := 180) dX13_worth_175 rfl ?_
      exact hk
  · have hf := hf.2 hc
    refine z_iconst (q := 59) (v := 0) dX13_worth_58 rfl rfl ?_
    refine z_istore (q := 61) (i := 7) (ls2 := [some (.ref a0), some (.int x1), some (.int x2), some (.int x3), some (.int x4), some (.int x5), some (.int x6), some (.int 0), none]) (x := 0) dX13_worth_59 (z_lt rfl) rfl rfl ?_
    refine z_iconst (q := 62) (v := 0) dX13_worth_61 rfl rfl ?_
    refine z_istore (q := 64) (i := 8) (ls2 := [some (.ref a0), some (.int x1), some (.int x2), some (.int x3), some (.int x4), some (.int x5), some (.int x6), some (.int 0), some (.int 0)]) (x := 0) dX13_worth_62 (z_lt rfl) rfl rfl ?_
    exact hf

theorem b_X13_worth_64 {l : Launch} {G : z_G} {a0 : Nat} {x1 : Int32} {x2 : Int32} {x3 : Int32} {x4 : Int32} {x5 : Int32} {x6 : Int32} {x7 : Int32} {x8 : Int32} {h : z_H} {Q : z_Q}  (hf : z_L11 h a0 ∧ ((h.I a0 41) ≤ x8 → ∀ v_2 : Int32, v_2 = (x4 + (if x7 ≤ 0 then 0 else 1)) → ((x7 ≤ 0 → True) ∧ (¬ x7 ≤ 0 → vp_in x6 20000 ∧ True)) ∧ ∀ v_5 : Int32, v_5 = (x5 + (if x7 ≤ 0 then 0 else (if (h.I (a0 + 27) (Int32.toNatClampNeg x6)) = 0 then 1 else 0))) → z_Ct l G m_X13_goesNext [.ref a0, .ref (a0 + 26), .int (h.I a0 41)] h (z_Qi (fun x_7 h_8 => z_V l G m_X13_worth (z_Fm G m_X13_worth Q) 0 0 h_8 49 [some (.ref a0), some (.int x1), some (.int x2), some (.int x3), some (.int v_2), some (.int v_5), some (.int (x6 + 1)), none, none] []))) ∧ (¬ (h.I a0 41) ≤ x8 → vp_in x8 24 ∧ ∀ v_10 : Int32, v_10 = (x7 + (if (h.I (a0 + 26) (Int32.toNatClampNeg x8)) = x1 then (if x3 ≤ x8 then (-1) else 1) else 0)) → z_V l G m_X13_worth (z_Fm G m_X13_worth Q) 0 0 h 64 [some (.ref a0), some (.int x1), some (.int x2), some (.int x3), some (.int x4), some (.int x5), some (.int x6), some (.int v_10), some (.int (x8 + 1))] [])) : z_V l G m_X13_worth (z_Fm G m_X13_worth Q) 0 0 h 64 [some (.ref a0), some (.int x1), some (.int x2), some (.int x3), some (.int x4), some (.int x5), some (.int x6), some (.int x7), some (.int x8)] [] := by
  refine z_iload (q := 66) (i := 8) (x := x8) dX13_worth_64 rfl rfl ?_
  refine z_aload_n (q := 67) (i := 0) (x := a0) dX13_worth_66 rfl rfl rfl ?_
  obtain ⟨g_1, hf⟩ := hf
  refine z_get 11 41 (q := 70) (v := .int (h.I a0 41)) rfl (z_lt rfl) (z_L11_T g_1) q1799 dX13_worth_67 rfl rfl ?_
  refine z_icmp_ge (q := 73) (tgt := 110) dX13_worth_70 rfl rfl (fun hc => ?_) (fun hc => ?_)
  · have hf := hf.1 hc
    refine z_iload (q := 112) (i := 4) (x := x4) dX13_worth_110 rfl rfl ?_
    refine z_iload (q := 114) (i := 7) (x := x7) dX13_worth_112 rfl rfl ?_
    have hk : z_V l G m_X13_worth (z_Fm G m_X13_worth Q) 0 0 h 122 [some (.ref a0), some (.int x1), some (.int x2), some (.int x3), some (.int x4), some (.int x5), some (.int x6), some (.int x7), some (.int x8)] [.int (if x7 ≤ 0 then 0 else 1), .int x4] := by
      refine z_iadd (q := 123) dX13_worth_122 rfl ?_
      refine z_nmI (fun v_2 hv_3 => ?_)
      have hf := hf v_2 hv_3
      refine z_istore (q := 125) (i := 4) (ls2 := [some (.ref a0), some (.int x1), some (.int x2), some (.int x3), some (.int v_2), some (.int x5), some (.int x6), some (.int x7), some (.int x8)]) (x := v_2) dX13_worth_123 (z_lt rfl) rfl rfl ?_
      refine z_iload (q := 127) (i := 5) (x := x5) dX13_worth_125 rfl rfl ?_
      refine z_iload (q := 129) (i := 7) (x := x7) dX13_worth_127 rfl rfl ?_
      obtain ⟨hsc, hf⟩ := hf
      have hk : z_V l G m_X13_worth (z_Fm G m_X13_worth Q) 0 0 h 147 [some (.ref a0), some (.int x1), some (.int x2), some (.int x3), some (.int v_2), some (.int x5), some (.int x6), some (.int x7), some (.int x8)] [.int (if x7 ≤ 0 then 0 else (if (h.I (a0 + 27) (Int32.toNatClampNeg x6)) = 0 then 1 else 0)), .int x5] := by
        refine z_iadd (q := 148) dX13_worth_147 rfl ?_
        refine z_nmI (fun v_5 hv_6 => ?_)
        have hf := hf v_5 hv_6
        refine z_istore (q := 150) (i := 5) (ls2 := [some (.ref a0), some (.int x1), some (.int x2), some (.int x3), some (.int v_2), some (.int v_5), some (.int x6), some (.int x7), some (.int x8)]) (x := v_5) dX13_worth_148 (z_lt rfl) rfl rfl ?_
        refine z_aload_n (q := 151) (i := 0) (x := a0) dX13_worth_150 rfl rfl rfl ?_
        refine z_aload_n (q := 152) (i := 0) (x := a0) dX13_worth_151 rfl rfl rfl ?_
        refine z_get 11 40 (q := 155) (v := .ref (a0 + 26)) rfl (z_lt rfl) (z_L11_T g_1) q1798 dX13_worth_152 rfl (z_fvR (fun _ _ _ => rfl) (z_L11_P40 g_1)) ?_
        refine z_aload_n (q := 156) (i := 0) (x := a0) dX13_worth_155 rfl rfl rfl ?_
        refine z_get 11 41 (q := 159) (v := .int (h.I a0 41)) rfl (z_lt rfl) (z_L11_T g_1) q1799 dX13_worth_156 rfl rfl ?_
        refine z_cVi m_X13_goesNext [.ref (a0 + 26), .int (h.I a0 41)] (a0) (q := 162) (rc2 := 0) (rs2 := 0) (st := []) dX13_worth_159 rfl q2207 oV_X13_goesNext rfl rfl ⟨z_le rfl, z_le rfl⟩ (z_le rfl) (z_rcv_of 11 rfl (z_L11_T g_1) rfl) rfl  rfl hf (fun x_7 h_8 hf => ?_)
        refine z_pop (q := 163) dX13_worth_162 rfl rfl ?_
        refine z_iinc (q := 166) (i := 6) (x := x6) (v := (x6 + 1)) (ls2 := [some (.ref a0), some (.int x1), some (.int x2), some (.int x3), some (.int v_2), some (.int v_5), some (.int (x6 + 1)), some (.int x7), some (.int x8)]) dX13_worth_163 rfl rfl (z_lt rfl) rfl rfl ?_
        refine z_goto (q := 49) dX13_worth_166 rfl ?_
        refine z_prune [true, true, true, true, true, true, true, false, false] (ls2 := [some (.ref a0), some (.int x1), some (.int x2), some (.int x3), some (.int v_2), some (.int v_5), some (.int (x6 + 1)), none, none]) rfl ?_
        exact hf
      refine z_if_le (q := 132) (tgt := 146) dX13_worth_129 rfl rfl (fun hc => ?_) (fun hc => ?_)
      · have hk := (z_ite hk).1 hc
        have hsc := hsc.1 hc
        refine z_iconst (q := 147) (v := 0) dX13_worth_146 rfl rfl ?_
        exact hk
      · have hk := (z_ite hk).2 hc
        have hsc := hsc.2 hc
        obtain ⟨g_4, hsc⟩ := hsc
        refine z_aload_n (q := 133) (i := 0) (x := a0) dX13_worth_132 rfl rfl rfl ?_
        refine z_get 11 42 (q := 136) (v := .ref (a0 + 27)) rfl (z_lt rfl) (z_L11_T g_1) q1800 dX13_worth_133 rfl (z_fvR (fun _ _ _ => rfl) (z_L11_P42 g_1)) ?_
        refine z_iload (q := 138) (i := 6) (x := x6) dX13_worth_136 rfl rfl ?_
        refine z_iald (q := 139) (n := 20000) (z_L11_A42 g_1) g_4 dX13_worth_138 rfl ?_
        refine z_if_ne (q := 142) (tgt := 146) dX13_worth_139 rfl rfl (fun hc => ?_) (fun hc => ?_)
        · have hk := (z_ite hk).2 hc
          refine z_iconst (q := 147) (v := 0) dX13_worth_146 rfl rfl ?_
          exact hk
        · have hk := (z_ite hk).1 hc
          refine z_iconst (q := 143) (v := 1) dX13_worth_142 rfl rfl ?_
          refine z_goto (q := 147) dX13_worth_143 rfl ?_
          exact hk
    refine z_if_le (q := 117) (tgt := 121) dX13_worth_114 rfl rfl (fun hc => ?_) (fun hc => ?_)
    · have hk := (z_ite hk).1 hc
      refine z_iconst (q := 122) (v := 0) dX13_worth_121 rfl rfl ?_
      exact hk
    · have hk := (z_ite hk).2 hc
      refine z_iconst (q := 118) (v := 1) dX13_worth_117 rfl rfl ?_
      refine z_goto (q := 122) dX13_worth_118 rfl ?_
      exact hk
  · have hf := hf.2 hc
    refine z_iload (q := 75) (i := 7) (x := x7) dX13_worth_73 rfl rfl ?_
    refine z_aload_n (q := 76) (i := 0) (x := a0) dX13_worth_75 rfl rfl rfl ?_
    refine z_get 11 40 (q := 79) (v := .ref (a0 + 26)) rfl (z_lt rfl) (z_L11_T g_1) q1798 dX13_worth_76 rfl (z_fvR (fun _ _ _ => rfl) (z_L11_P40 g_1)) ?_
    refine z_iload (q := 81) (i := 8) (x := x8) dX13_worth_79 rfl rfl ?_
    obtain ⟨g_9, hf⟩ := hf
    refine z_iald (q := 82) (n := 24) (z_L11_A40 g_1) g_9 dX13_worth_81 rfl ?_
    refine z_iload_n (q := 83) (i := 1) (x := x1) dX13_worth_82 rfl rfl rfl ?_
    have hk : z_V l G m_X13_worth (z_Fm G m_X13_worth Q) 0 0 h 101 [some (.ref a0), some (.int x1), some (.int x2), some (.int x3), some (.int x4), some (.int x5), some (.int x6), some (.int x7), some (.int x8)] [.int (if (h.I (a0 + 26) (Int32.toNatClampNeg x8)) = x1 then (if x3 ≤ x8 then (-1) else 1) else 0), .int x7] := by
      refine z_iadd (q := 102) dX13_worth_101 rfl ?_
      refine z_nmI (fun v_10 hv_11 => ?_)
      have hf := hf v_10 hv_11
      refine z_istore (q := 104) (i := 7) (ls2 := [some (.ref a0), some (.int x1), some (.int x2), some (.int x3), some (.int x4), some (.int x5), some (.int x6), some (.int v_10), some (.int x8)]) (x := v_10) dX13_worth_102 (z_lt rfl) rfl rfl ?_
      refine z_iinc (q := 107) (i := 8) (x := x8) (v := (x8 + 1)) (ls2 := [some (.ref a0), some (.int x1), some (.int x2), some (.int x3), some (.int x4), some (.int x5), some (.int x6), some (.int v_10), some (.int (x8 + 1))]) dX13_worth_104 rfl rfl (z_lt rfl) rfl rfl ?_
      refine z_goto (q := 64) dX13_worth_107 rfl ?_
      exact hf
    refine z_icmp_eq (q := 86) (tgt := 90) dX13_worth_83 rfl rfl (fun hc => ?_) (fun hc => ?_)
    · have hk := (z_ite hk).1 hc
      refine z_iload (q := 92) (i := 8) (x := x8) dX13_worth_90 rfl rfl ?_
      refine z_iload_n (q := 93) (i := 3) (x := x3) dX13_worth_92 rfl rfl rfl ?_
      refine z_icmp_ge (q := 96) (tgt := 100) dX13_worth_93 rfl rfl (fun hc => ?_) (fun hc => ?_)
      · have hk := (z_ite hk).1 hc
        refine z_iconst (q := 101) (v := (-1)) dX13_worth_100 rfl rfl ?_
        exact hk
      · have hk := (z_ite hk).2 hc
        refine z_iconst (q := 97) (v := 1) dX13_worth_96 rfl rfl ?_
        refine z_goto (q := 101) dX13_worth_97 rfl ?_
        exact hk
    · have hk := (z_ite hk).2 hc
      refine z_iconst (q := 87) (v := 0) dX13_worth_86 rfl rfl ?_
      refine z_goto (q := 101) dX13_worth_87 rfl ?_
      exact hk

theorem u_X13_worthAt {l : Launch} {G : z_G} {a0 : Nat} {x1 : Int32} {h : z_H} {Q : z_Q} (hst : l.stackTraces = false)  (hf : z_V l G m_X13_worthAt (z_Fm G m_X13_worthAt Q) 0 0 h 4 [some (.ref a0), none, some (.int 0), some (.int x1), none] []) : z_Ct l G m_X13_worthAt [.ref a0, .int x1] h Q := by
  refine z_Ct.of (ls := [some (.ref a0), some (.int x1), none, none, none]) hst rfl (by show plainName yX13_worthAt.cls = true; decide +kernel) (z_le rfl) rfl ?_
  show z_V l G m_X13_worthAt (z_Fm G m_X13_worthAt Q) 0 0 h 0 [some (.ref a0), some (.int x1), none, none, none] []
  refine z_iconst (q := 1) (v := 0) dX13_worthAt_0 rfl rfl ?_
  refine z_istore_n (q := 2) (i := 2) (ls2 := [some (.ref a0), some (.int x1), some (.int 0), none, none]) (x := 0) dX13_worthAt_1 rfl (z_lt rfl) rfl rfl ?_
  refine z_iload_n (q := 3) (i := 1) (x := x1) dX13_worthAt_2 rfl rfl rfl ?_
  refine z_istore_n (q := 4) (i := 3) (ls2 := [some (.ref a0), some (.int x1), some (.int 0), some (.int x1), none]) (x := x1) dX13_worthAt_3 rfl (z_lt rfl) rfl rfl ?_
  refine z_prune [true, false, true, true, false] (ls2 := [some (.ref a0), none, some (.int 0), some (.int x1), none]) rfl ?_
  exact hf

theorem b_X13_worthAt_4 {l : Launch} {G : z_G} {a0 : Nat} {x2 : Int32} {x3 : Int32} {h : z_H} {Q : z_Q}  (hf : z_L11 h a0 ∧ vp_in x3 2200 ∧ ((h.I (a0 + 7) (Int32.toNatClampNeg x3)) = 0 → vp_in 0 1100 ∧ Q (some (.int (h.I (a0 + 15) (Int32.toNatClampNeg 0)))) h) ∧ (¬ (h.I (a0 + 7) (Int32.toNatClampNeg x3)) = 0 → vp_in x3 2200 ∧ ∀ v_5 : Int32, v_5 = (h.I (a0 + 7) (Int32.toNatClampNeg x3)) → (v_5 = 1 → z_V l G m_X13_worthAt (z_Fm G m_X13_worthAt Q) 0 0 h 33 [some (.ref a0), none, some (.int x2), some (.int x3), some (.int v_5)] []) ∧ (¬ v_5 = 1 → (v_5 = 2 → z_V l G m_X13_worthAt (z_Fm G m_X13_worthAt Q) 0 0 h 33 [some (.ref a0), none, some (.int x2), some (.int x3), some (.int v_5)] []) ∧ (¬ v_5 = 2 → (v_5 = 3 → vp_in (x2 - 1) 1100 ∧ vp_in (x2 - 1) 1100 ∧ z_V l G m_X13_worthAt (z_Fm G m_X13_worthAt Q) 0 0 (h.sI (a0 + 15) (Int32.toNatClampNeg (x2 - 1)) (if (h.I (a0 + 15) (Int32.toNatClampNeg (x2 - 1))) = 0 then 1 else 0)) 4 [some (.ref a0), none, some (.int x2), some (.int (x3 + 1)), none] []) ∧ (¬ v_5 = 3 → vp_in ((x2 + (-1)) - 1) 1100 ∧ vp_in (x2 + (-1)) 1100 ∧ z_Ct l G m_X13_both [.int v_5, .int (h.I (a0 + 15) (Int32.toNatClampNeg ((x2 + (-1)) - 1))), .int (h.I (a0 + 15) (Int32.toNatClampNeg (x2 + (-1))))] h (z_Qi (fun x_9 h_10 => ∃ n_11, h_10.T (a0 + 15) = (1, n_11) ∧ vp_in ((x2 + (-1)) - 1) n_11 ∧ z_V l G m_X13_worthAt (z_Fm G m_X13_worthAt Q) 0 0 (h_10.sI (a0 + 15) (Int32.toNatClampNeg ((x2 + (-1)) - 1)) x_9) 4 [some (.ref a0), none, some (.int (x2 + (-1))), some (.int (x3 + 1)), none] []))))))) : z_V l G m_X13_worthAt (z_Fm G m_X13_worthAt Q) 0 0 h 4 [some (.ref a0), none, some (.int x2), some (.int x3), none] [] := by
  refine z_aload_n (q := 5) (i := 0) (x := a0) dX13_worthAt_4 rfl rfl rfl ?_
  obtain ⟨g_1, hf⟩ := hf
  refine z_get 11 11 (q := 8) (v := .ref (a0 + 7)) rfl (z_lt rfl) (z_L11_T g_1) q1769 dX13_worthAt_5 rfl (z_fvR (fun _ _ _ => rfl) (z_L11_P11 g_1)) ?_
  refine z_iload_n (q := 9) (i := 3) (x := x3) dX13_worthAt_8 rfl rfl rfl ?_
  obtain ⟨g_2, hf⟩ := hf
  refine z_iald (q := 10) (n := 2200) (z_L11_A11 g_1) g_2 dX13_worthAt_9 rfl ?_
  refine z_if_eq (q := 13) (tgt := 140) dX13_worthAt_10 rfl rfl (fun hc => ?_) (fun hc => ?_)
  · have hf := hf.1 hc
    refine z_aload_n (q := 141) (i := 0) (x := a0) dX13_worthAt_140 rfl rfl rfl ?_
    refine z_get 11 21 (q := 144) (v := .ref (a0 + 15)) rfl (z_lt rfl) (z_L11_T g_1) q1779 dX13_worthAt_141 rfl (z_fvR (fun _ _ _ => rfl) (z_L11_P21 g_1)) ?_
    refine z_iconst (q := 145) (v := 0) dX13_worthAt_144 rfl rfl ?_
    obtain ⟨g_3, hf⟩ := hf
    refine z_iald (q := 146) (n := 1100) (z_L11_A21 g_1) g_3 dX13_worthAt_145 rfl ?_
    exact z_iret dX13_worthAt_146 rfl hf
  · have hf := hf.2 hc
    refine z_aload_n (q := 14) (i := 0) (x := a0) dX13_worthAt_13 rfl rfl rfl ?_
    refine z_get 11 11 (q := 17) (v := .ref (a0 + 7)) rfl (z_lt rfl) (z_L11_T g_1) q1769 dX13_worthAt_14 rfl (z_fvR (fun _ _ _ => rfl) (z_L11_P11 g_1)) ?_
    refine z_iload_n (q := 18) (i := 3) (x := x3) dX13_worthAt_17 rfl rfl rfl ?_
    obtain ⟨g_4, hf⟩ := hf
    refine z_iald (q := 19) (n := 2200) (z_L11_A11 g_1) g_4 dX13_worthAt_18 rfl ?_
    refine z_nmI (fun v_5 hv_6 => ?_)
    have hf := hf v_5 hv_6
    refine z_istore (q := 21) (i := 4) (ls2 := [some (.ref a0), none, some (.int x2), some (.int x3), some (.int v_5)]) (x := v_5) dX13_worthAt_19 (z_lt rfl) rfl rfl ?_
    refine z_iload (q := 23) (i := 4) (x := v_5) dX13_worthAt_21 rfl rfl ?_
    refine z_iconst (q := 24) (v := 1) dX13_worthAt_23 rfl rfl ?_
    refine z_icmp_eq (q := 27) (tgt := 33) dX13_worthAt_24 rfl rfl (fun hc => ?_) (fun hc => ?_)
    · have hf := hf.1 hc
      exact hf
    · have hf := hf.2 hc
      refine z_iload (q := 29) (i := 4) (x := v_5) dX13_worthAt_27 rfl rfl ?_
      refine z_iconst (q := 30) (v := 2) dX13_worthAt_29 rfl rfl ?_
      refine z_icmp_ne (q := 33) (tgt := 71) dX13_worthAt_30 rfl rfl (fun hc => ?_) (fun hc => ?_)
      · have hf := hf.2 hc
        refine z_iload (q := 73) (i := 4) (x := v_5) dX13_worthAt_71 rfl rfl ?_
        refine z_iconst (q := 74) (v := 3) dX13_worthAt_73 rfl rfl ?_
        refine z_icmp_ne (q := 77) (tgt := 104) dX13_worthAt_74 rfl rfl (fun hc => ?_) (fun hc => ?_)
        · have hf := hf.2 hc
          refine z_iinc (q := 107) (i := 2) (x := x2) (v := (x2 + (-1))) (ls2 := [some (.ref a0), none, some (.int (x2 + (-1))), some (.int x3), some (.int v_5)]) dX13_worthAt_104 rfl rfl (z_lt rfl) rfl rfl ?_
          refine z_aload_n (q := 108) (i := 0) (x := a0) dX13_worthAt_107 rfl rfl rfl ?_
          refine z_get 11 21 (q := 111) (v := .ref (a0 + 15)) rfl (z_lt rfl) (z_L11_T g_1) q1779 dX13_worthAt_108 rfl (z_fvR (fun _ _ _ => rfl) (z_L11_P21 g_1)) ?_
          refine z_iload_n (q := 112) (i := 2) (x := (x2 + (-1))) dX13_worthAt_111 rfl rfl rfl ?_
          refine z_iconst (q := 113) (v := 1) dX13_worthAt_112 rfl rfl ?_
          refine z_isub (q := 114) dX13_worthAt_113 rfl ?_
          refine z_iload (q := 116) (i := 4) (x := v_5) dX13_worthAt_114 rfl rfl ?_
          refine z_aload_n (q := 117) (i := 0) (x := a0) dX13_worthAt_116 rfl rfl rfl ?_
          refine z_get 11 21 (q := 120) (v := .ref (a0 + 15)) rfl (z_lt rfl) (z_L11_T g_1) q1779 dX13_worthAt_117 rfl (z_fvR (fun _ _ _ => rfl) (z_L11_P21 g_1)) ?_
          refine z_iload_n (q := 121) (i := 2) (x := (x2 + (-1))) dX13_worthAt_120 rfl rfl rfl ?_
          refine z_iconst (q := 122) (v := 1) dX13_worthAt_121 rfl rfl ?_
          refine z_isub (q := 123) dX13_worthAt_122 rfl ?_
          obtain ⟨g_7, hf⟩ := hf
          refine z_iald (q := 124) (n := 1100) (z_L11_A21 g_1) g_7 dX13_worthAt_123 rfl ?_
          refine z_aload_n (q := 125) (i := 0) (x := a0) dX13_worthAt_124 rfl rfl rfl ?_
          refine z_get 11 21 (q := 128) (v := .ref (a0 + 15)) rfl (z_lt rfl) (z_L11_T g_1) q1779 dX13_worthAt_125 rfl (z_fvR (fun _ _ _ => rfl) (z_L11_P21 g_1)) ?_
          refine z_iload_n (q := 129) (i := 2) (x := (x2 + (-1))) dX13_worthAt_128 rfl rfl rfl ?_
          obtain ⟨g_8, hf⟩ := hf
          refine z_iald (q := 130) (n := 1100) (z_L11_A21 g_1) g_8 dX13_worthAt_129 rfl ?_
          refine z_cSi m_X13_both [.int v_5, .int (h.I (a0 + 15) (Int32.toNatClampNeg ((x2 + (-1)) - 1))), .int (h.I (a0 + 15) (Int32.toNatClampNeg (x2 + (-1))))] (q := 133) (rc2 := 0) (rs2 := 0) (st := [.int ((x2 + (-1)) - 1), .ref (a0 + 15)]) dX13_worthAt_130 rfl q2266 oS_X13_both rfl rfl ⟨z_le rfl, z_le rfl⟩ (z_le rfl) rfl  rfl hf (fun x_9 h_10 hf => ?_)
          obtain ⟨n_11, g_12, hf⟩ := hf
          obtain ⟨g_13, hf⟩ := hf
          refine z_iast (q := 134) (n := n_11) g_12 g_13 dX13_worthAt_133 rfl ?_
          refine z_iinc (q := 137) (i := 3) (x := x3) (v := (x3 + 1)) (ls2 := [some (.ref a0), none, some (.int (x2 + (-1))), some (.int (x3 + 1)), some (.int v_5)]) dX13_worthAt_134 rfl rfl (z_lt rfl) rfl rfl ?_
          refine z_goto (q := 4) dX13_worthAt_137 rfl ?_
          refine z_prune [true, false, true, true, false] (ls2 := [some (.ref a0), none, some (.int (x2 + (-1))), some (.int (x3 + 1)), none]) rfl ?_
          exact hf
        · have hf := hf.1 hc
          refine z_aload_n (q := 78) (i := 0) (x := a0) dX13_worthAt_77 rfl rfl rfl ?_
          refine z_get 11 21 (q := 81) (v := .ref (a0 + 15)) rfl (z_lt rfl) (z_L11_T g_1) q1779 dX13_worthAt_78 rfl (z_fvR (fun _ _ _ => rfl) (z_L11_P21 g_1)) ?_
          refine z_iload_n (q := 82) (i := 2) (x := x2) dX13_worthAt_81 rfl rfl rfl ?_
          refine z_iconst (q := 83) (v := 1) dX13_worthAt_82 rfl rfl ?_
          refine z_isub (q := 84) dX13_worthAt_83 rfl ?_
          refine z_aload_n (q := 85) (i := 0) (x := a0) dX13_worthAt_84 rfl rfl rfl ?_
          refine z_get 11 21 (q := 88) (v := .ref (a0 + 15)) rfl (z_lt rfl) (z_L11_T g_1) q1779 dX13_worthAt_85 rfl (z_fvR (fun _ _ _ => rfl) (z_L11_P21 g_1)) ?_
          refine z_iload_n (q := 89) (i := 2) (x := x2) dX13_worthAt_88 rfl rfl rfl ?_
          refine z_iconst (q := 90) (v := 1) dX13_worthAt_89 rfl rfl ?_
          refine z_isub (q := 91) dX13_worthAt_90 rfl ?_
          obtain ⟨g_14, hf⟩ := hf
          refine z_iald (q := 92) (n := 1100) (z_L11_A21 g_1) g_14 dX13_worthAt_91 rfl ?_
          have hk : z_V l G m_X13_worthAt (z_Fm G m_X13_worthAt Q) 0 0 h 100 [some (.ref a0), none, some (.int x2), some (.int x3), some (.int v_5)] [.int (if (h.I (a0 + 15) (Int32.toNatClampNeg (x2 - 1))) = 0 then 1 else 0), .int (x2 - 1), .ref (a0 + 15)] := by
            obtain ⟨g_15, hf⟩ := hf
            refine z_iast (q := 101) (n := 1100) (z_L11_A21 g_1) g_15 dX13_worthAt_100 rfl ?_
            refine z_goto (q := 134) dX13_worthAt_101 rfl ?_
            refine z_iinc (q := 137) (i := 3) (x := x3) (v := (x3 + 1)) (ls2 := [some (.ref a0), none, some (.int x2), some (.int (x3 + 1)), some (.int v_5)]) dX13_worthAt_134 rfl rfl (z_lt rfl) rfl rfl ?_
            refine z_goto (q := 4) dX13_worthAt_137 rfl ?_
            refine z_prune [true, false, true, true, false] (ls2 := [some (.ref a0), none, some (.int x2), some (.int (x3 + 1)), none]) rfl ?_
            exact hf
          refine z_if_ne (q := 95) (tgt := 99) dX13_worthAt_92 rfl rfl (fun hc => ?_) (fun hc => ?_)
          · have hk := (z_ite hk).2 hc
            refine z_iconst (q := 100) (v := 0) dX13_worthAt_99 rfl rfl ?_
            exact hk
          · have hk := (z_ite hk).1 hc
            refine z_iconst (q := 96) (v := 1) dX13_worthAt_95 rfl rfl ?_
            refine z_goto (q := 100) dX13_worthAt_96 rfl ?_
            exact hk
      · have hf := hf.1 hc
        exact hf

theorem b_X13_worthAt_33 {l : Launch} {G : z_G} {a0 : Nat} {x2 : Int32} {x3 : Int32} {x4 : Int32} {h : z_H} {Q : z_Q}  (hf : z_L11 h a0 ∧ ((x4 = 1 → vp_in x3 2200 ∧ True) ∧ (¬ x4 = 1 → vp_in x3 2200 ∧ vp_in (h.I (a0 + 8) (Int32.toNatClampNeg x3)) 4 ∧ True)) ∧ vp_in x2 1100 ∧ z_V l G m_X13_worthAt (z_Fm G m_X13_worthAt Q) 0 0 (h.sI (a0 + 15) (Int32.toNatClampNeg x2) (if x4 = 1 then (h.I (a0 + 8) (Int32.toNatClampNeg x3)) else (h.I (a0 + 14) (Int32.toNatClampNeg (h.I (a0 + 8) (Int32.toNatClampNeg x3)))))) 4 [some (.ref a0), none, some (.int (x2 + 1)), some (.int (x3 + 1)), none] []) : z_V l G m_X13_worthAt (z_Fm G m_X13_worthAt Q) 0 0 h 33 [some (.ref a0), none, some (.int x2), some (.int x3), some (.int x4)] [] := by
  refine z_aload_n (q := 34) (i := 0) (x := a0) dX13_worthAt_33 rfl rfl rfl ?_
  obtain ⟨g_1, hf⟩ := hf
  refine z_get 11 21 (q := 37) (v := .ref (a0 + 15)) rfl (z_lt rfl) (z_L11_T g_1) q1779 dX13_worthAt_34 rfl (z_fvR (fun _ _ _ => rfl) (z_L11_P21 g_1)) ?_
  refine z_iload_n (q := 38) (i := 2) (x := x2) dX13_worthAt_37 rfl rfl rfl ?_
  refine z_iload (q := 40) (i := 4) (x := x4) dX13_worthAt_38 rfl rfl ?_
  refine z_iconst (q := 41) (v := 1) dX13_worthAt_40 rfl rfl ?_
  obtain ⟨hsc, hf⟩ := hf
  have hk : z_V l G m_X13_worthAt (z_Fm G m_X13_worthAt Q) 0 0 h 64 [some (.ref a0), none, some (.int x2), some (.int x3), some (.int x4)] [.int (if x4 = 1 then (h.I (a0 + 8) (Int32.toNatClampNeg x3)) else (h.I (a0 + 14) (Int32.toNatClampNeg (h.I (a0 + 8) (Int32.toNatClampNeg x3))))), .int x2, .ref (a0 + 15)] := by
    obtain ⟨g_5, hf⟩ := hf
    refine z_iast (q := 65) (n := 1100) (z_L11_A21 g_1) g_5 dX13_worthAt_64 rfl ?_
    refine z_iinc (q := 68) (i := 2) (x := x2) (v := (x2 + 1)) (ls2 := [some (.ref a0), none, some (.int (x2 + 1)), some (.int x3), some (.int x4)]) dX13_worthAt_65 rfl rfl (z_lt rfl) rfl rfl ?_
    refine z_goto (q := 134) dX13_worthAt_68 rfl ?_
    refine z_iinc (q := 137) (i := 3) (x := x3) (v := (x3 + 1)) (ls2 := [some (.ref a0), none, some (.int (x2 + 1)), some (.int (x3 + 1)), some (.int x4)]) dX13_worthAt_134 rfl rfl (z_lt rfl) rfl rfl ?_
    refine z_goto (q := 4) dX13_worthAt_137 rfl ?_
    refine z_prune [true, false, true, true, false] (ls2 := [some (.ref a0), none, some (.int (x2 + 1)), some (.int (x3 + 1)), none]) rfl ?_
    exact hf
  refine z_icmp_ne (q := 44) (tgt := 53) dX13_worthAt_41 rfl rfl (fun hc => ?_) (fun hc => ?_)
  · have hk := (z_ite hk).2 hc
    have hsc := hsc.2 hc
    obtain ⟨g_2, hsc⟩ := hsc
    obtain ⟨g_3, hsc⟩ := hsc
    refine z_aload_n (q := 54) (i := 0) (x := a0) dX13_worthAt_53 rfl rfl rfl ?_
    refine z_get 11 20 (q := 57) (v := .ref (a0 + 14)) rfl (z_lt rfl) (z_L11_T g_1) q1778 dX13_worthAt_54 rfl (z_fvR (fun _ _ _ => rfl) (z_L11_P20 g_1)) ?_
    refine z_aload_n (q := 58) (i := 0) (x := a0) dX13_worthAt_57 rfl rfl rfl ?_
    refine z_get 11 12 (q := 61) (v := .ref (a0 + 8)) rfl (z_lt rfl) (z_L11_T g_1) q1770 dX13_worthAt_58 rfl (z_fvR (fun _ _ _ => rfl) (z_L11_P12 g_1)) ?_
    refine z_iload_n (q := 62) (i := 3) (x := x3) dX13_worthAt_61 rfl rfl rfl ?_
    refine z_iald (q := 63) (n := 2200) (z_L11_A12 g_1) g_2 dX13_worthAt_62 rfl ?_
    refine z_iald (q := 64) (n := 4) (z_L11_A20 g_1) g_3 dX13_worthAt_63 rfl ?_
    exact hk
  · have hk := (z_ite hk).1 hc
    have hsc := hsc.1 hc
    obtain ⟨g_4, hsc⟩ := hsc
    refine z_aload_n (q := 45) (i := 0) (x := a0) dX13_worthAt_44 rfl rfl rfl ?_
    refine z_get 11 12 (q := 48) (v := .ref (a0 + 8)) rfl (z_lt rfl) (z_L11_T g_1) q1770 dX13_worthAt_45 rfl (z_fvR (fun _ _ _ => rfl) (z_L11_P12 g_1)) ?_
    refine z_iload_n (q := 49) (i := 3) (x := x3) dX13_worthAt_48 rfl rfl rfl ?_
    refine z_iald (q := 50) (n := 2200) (z_L11_A12 g_1) g_4 dX13_worthAt_49 rfl ?_
    refine z_goto (q := 64) dX13_worthAt_50 rfl ?_
    exact hk

theorem u_X13_wrong {l : Launch} {G : z_G} {a0 : Nat} {x1 : Int32} {h : z_H} {Q : z_Q} (hst : l.stackTraces = false)  (hf : z_L11 h a0 ∧ ((h.I a0 8) = 0 → vp_in (h.I a0 7) 1002 ∧ Q none (h.sI a0 8 (x1 + (16 * (h.I (a0 + 3) (Int32.toNatClampNeg (h.I a0 7))))))) ∧ (¬ (h.I a0 8) = 0 → Q none h)) : z_Ct l G m_X13_wrong [.ref a0, .int x1] h Q := by
  refine z_Ct.of (ls := [some (.ref a0), some (.int x1)]) hst rfl (by show plainName yX13_wrong.cls = true; decide +kernel) (z_le rfl) rfl ?_
  show z_V l G m_X13_wrong (z_Fm G m_X13_wrong Q) 0 0 h 0 [some (.ref a0), some (.int x1)] []
  refine z_aload_n (q := 1) (i := 0) (x := a0) dX13_wrong_0 rfl rfl rfl ?_
  obtain ⟨g_1, hf⟩ := hf
  refine z_get 11 8 (q := 4) (v := .int (h.I a0 8)) rfl (z_lt rfl) (z_L11_T g_1) q1766 dX13_wrong_1 rfl rfl ?_
  refine z_if_ne (q := 7) (tgt := 25) dX13_wrong_4 rfl rfl (fun hc => ?_) (fun hc => ?_)
  · have hf := hf.2 hc
    exact z_vret dX13_wrong_25 rfl hf
  · have hf := hf.1 hc
    refine z_aload_n (q := 8) (i := 0) (x := a0) dX13_wrong_7 rfl rfl rfl ?_
    refine z_iload_n (q := 9) (i := 1) (x := x1) dX13_wrong_8 rfl rfl rfl ?_
    refine z_bipush (q := 11) (v := 16) dX13_wrong_9 (by decide) rfl ?_
    refine z_aload_n (q := 12) (i := 0) (x := a0) dX13_wrong_11 rfl rfl rfl ?_
    refine z_get 11 5 (q := 15) (v := .ref (a0 + 3)) rfl (z_lt rfl) (z_L11_T g_1) q1763 dX13_wrong_12 rfl (z_fvR (fun _ _ _ => rfl) (z_L11_P5 g_1)) ?_
    refine z_aload_n (q := 16) (i := 0) (x := a0) dX13_wrong_15 rfl rfl rfl ?_
    refine z_get 11 7 (q := 19) (v := .int (h.I a0 7)) rfl (z_lt rfl) (z_L11_T g_1) q1765 dX13_wrong_16 rfl rfl ?_
    obtain ⟨g_2, hf⟩ := hf
    refine z_iald (q := 20) (n := 1002) (z_L11_A5 g_1) g_2 dX13_wrong_19 rfl ?_
    refine z_imul (q := 21) dX13_wrong_20 rfl ?_
    refine z_iadd (q := 22) dX13_wrong_21 rfl ?_
    refine z_putI 11 8 (q := 25) (x := (x1 + (16 * (h.I (a0 + 3) (Int32.toNatClampNeg (h.I a0 7)))))) (v := .int (x1 + (16 * (h.I (a0 + 3) (Int32.toNatClampNeg (h.I a0 7)))))) rfl (z_lt rfl) (z_L11_T g_1) q1766 rfl dX13_wrong_22 rfl rfl rfl rfl (fun _ _ _ => rfl) ?_
    exact z_vret dX13_wrong_25 rfl hf

