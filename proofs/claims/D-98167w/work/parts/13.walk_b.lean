set_option maxRecDepth 100000
set_option maxHeartbeats 4000000
theorem u_X1_again {l : Launch} {G : z_G} {a0 : Nat} {h : z_H} {Q : z_Q} (hst : l.stackTraces = false)  (hf : z_L0 h a0 ∧ ((h.I a0 12) = 0 → Q (some (.int 0)) h) ∧ (¬ (h.I a0 12) = 0 → z_Ct l G m_X1_begins [.ref a0] h (z_Qv (fun h_2 => Q (some (.int 1)) h_2)))) : z_Ct l G m_X1_again [.ref a0] h Q := by
  refine z_Ct.of (ls := [some (.ref a0)]) hst rfl (by decide +kernel) (z_le rfl) rfl ?_
  show z_V l G m_X1_again (z_Fm G m_X1_again Q) 0 0 h 0 [some (.ref a0)] []
  refine z_aload_n (q := 1) (i := 0) (x := a0) dX1_again_0 rfl rfl rfl ?_
  obtain ⟨g_1, hf⟩ := hf
  refine z_get 0 12 (q := 4) (v := .int (h.I a0 12)) rfl (z_lt rfl) (z_L0_T g_1) q518 dX1_again_1 rfl rfl ?_
  refine z_if_ne (q := 7) (tgt := 9) dX1_again_4 rfl rfl (fun hc => ?_) (fun hc => ?_)
  · have hf := hf.2 hc
    refine z_aload_n (q := 10) (i := 0) (x := a0) dX1_again_9 rfl rfl rfl ?_
    refine z_cVv m_X1_begins [] (a0) (q := 13) (rc2 := 0) (rs2 := 0) (st := []) dX1_again_10 rfl q1176 oV_X1_begins rfl rfl ⟨z_le rfl, z_le rfl⟩ (z_le rfl) (z_rcv_of 0 rfl (z_L0_T g_1) rfl) rfl  rfl hf (fun h_2 hf => ?_)
    refine z_iconst (q := 14) (v := 1) dX1_again_13 rfl rfl ?_
    exact z_zret dX1_again_14 rfl (z_nb01 z_b1) hf
  · have hf := hf.1 hc
    refine z_iconst (q := 8) (v := 0) dX1_again_7 rfl rfl ?_
    exact z_zret dX1_again_8 rfl (z_nb01 z_b0) hf

theorem u_X1_all {l : Launch} {G : z_G} {a0 : Nat} {x1 : Int32} {h : z_H} {Q : z_Q} (hst : l.stackTraces = false)  (hf : z_Ct l G m_X1_in [.int x1, .int 0, .int 6] h (z_Qi (fun x_1 h_2 => (x_1 = 0 → Q (some (.int (-1))) h_2) ∧ (¬ x_1 = 0 → z_L0 h_2 a0 ∧ z_Ct l G m_X1_firstRow [.ref a0] h_2 (z_Qi (fun x_4 h_5 => (x_4 = 0 → Q (some (.int (-1))) h_5) ∧ (¬ x_4 = 0 → z_V l G m_X1_all (z_Fm G m_X1_all Q) 0 0 (h_5.nw (1, 4)) 31 [some (.ref a0), some (.int x1), some (.ref (h_5.n)), some (.int 0), some (.int 0), some (.int (-1))] []))))))) : z_Ct l G m_X1_all [.ref a0, .int x1] h Q := by
  refine z_Ct.of (ls := [some (.ref a0), some (.int x1), none, none, none, none]) hst rfl (by decide +kernel) (z_le rfl) rfl ?_
  show z_V l G m_X1_all (z_Fm G m_X1_all Q) 2 12 h 0 [some (.ref a0), some (.int x1), none, none, none, none] []
  refine z_iload_n (q := 1) (i := 1) (x := x1) dX1_all_0 rfl rfl rfl ?_
  refine z_iconst (q := 2) (v := 0) dX1_all_1 rfl rfl ?_
  refine z_bipush (q := 4) (v := 6) dX1_all_2 (by decide) rfl ?_
  refine z_cSi m_X1_in [.int x1, .int 0, .int 6] (q := 7) (rc2 := 2) (rs2 := 12) (st := []) dX1_all_4 rfl q1259 oS_X1_in rfl rfl ⟨z_le rfl, z_le rfl⟩ (z_le rfl) rfl  rfl hf (fun x_1 h_2 hf => ?_)
  refine z_if_eq (q := 10) (tgt := 17) dX1_all_7 rfl rfl (fun hc => ?_) (fun hc => ?_)
  · have hf := hf.1 hc
    refine z_iconst (q := 18) (v := (-1)) dX1_all_17 rfl rfl ?_
    exact z_iret dX1_all_18 rfl hf
  · have hf := hf.2 hc
    refine z_aload_n (q := 11) (i := 0) (x := a0) dX1_all_10 rfl rfl rfl ?_
    obtain ⟨g_3, hf⟩ := hf
    refine z_cVi m_X1_firstRow [] (a0) (q := 14) (rc2 := 1) (rs2 := 4) (st := []) dX1_all_11 rfl q1449 oV_X1_firstRow rfl rfl ⟨z_le rfl, z_le rfl⟩ (z_le rfl) (z_rcv_of 0 rfl (z_L0_T g_3) rfl) rfl  rfl hf (fun x_4 h_5 hf => ?_)
    refine z_if_ne (q := 17) (tgt := 19) dX1_all_14 rfl rfl (fun hc => ?_) (fun hc => ?_)
    · have hf := hf.2 hc
      refine z_iconst (q := 20) (v := 4) dX1_all_19 rfl rfl ?_
      refine z_newa 1 (q := 22) (N := 4) (rc2 := 0) (rs2 := 0) (z_lt rfl) (z_lt rfl) rfl q295 (by decide) rfl (z_le rfl) dX1_all_20 rfl rfl rfl ?_
      refine z_astore_n (q := 23) (i := 2) (ls2 := [some (.ref a0), some (.int x1), some (.ref (h_5.n)), none, none, none]) (x := (h_5.n)) dX1_all_22 rfl (z_lt rfl) rfl rfl ?_
      refine z_iconst (q := 24) (v := 0) dX1_all_23 rfl rfl ?_
      refine z_istore_n (q := 25) (i := 3) (ls2 := [some (.ref a0), some (.int x1), some (.ref (h_5.n)), some (.int 0), none, none]) (x := 0) dX1_all_24 rfl (z_lt rfl) rfl rfl ?_
      refine z_iconst (q := 26) (v := 0) dX1_all_25 rfl rfl ?_
      refine z_istore (q := 28) (i := 4) (ls2 := [some (.ref a0), some (.int x1), some (.ref (h_5.n)), some (.int 0), some (.int 0), none]) (x := 0) dX1_all_26 (z_lt rfl) rfl rfl ?_
      refine z_iconst (q := 29) (v := (-1)) dX1_all_28 rfl rfl ?_
      refine z_istore (q := 31) (i := 5) (ls2 := [some (.ref a0), some (.int x1), some (.ref (h_5.n)), some (.int 0), some (.int 0), some (.int (-1))]) (x := (-1)) dX1_all_29 (z_lt rfl) rfl rfl ?_
      exact hf
    · have hf := hf.1 hc
      refine z_iconst (q := 18) (v := (-1)) dX1_all_17 rfl rfl ?_
      exact z_iret dX1_all_18 rfl hf

theorem b_X1_all_31 {l : Launch} {G : z_G} {rc rs : Nat} {a0 : Nat} {x1 : Int32} {a2 : Nat} {x3 : Int32} {x4 : Int32} {x5 : Int32} {h : z_H} {Q : z_Q}  (hf : z_L0 h a0 ∧ ∃ b_2, (h.P a0 4) = some b_2 ∧ z_L8 h b_2 ∧ z_Ct l G m_X10_first [.ref b_2] h (z_Qi (fun x_5 h_6 => z_L0 h_6 a0 ∧ ∃ b_8, (h_6.P a0 4) = some b_8 ∧ z_L8 h_6 b_8 ∧ z_Ct l G m_X1_plays [.ref a0, .int x_5, .ref (b_8 + 3)] h_6 (z_Qv (fun h_11 => z_L0 h_11 a0 ∧ ∃ n_13, h_11.T a2 = (1, n_13) ∧ vp_in (h_11.I (a0 + 9) 7) n_13 ∧ vp_in (h_11.I (a0 + 9) 7) n_13 ∧ (2 ≤ ((h_11.sI a2 (Int32.toNatClampNeg (h_11.I (a0 + 9) 7)) ((h_11.I a2 (Int32.toNatClampNeg (h_11.I (a0 + 9) 7))) + 1)).I (a0 + 9) 7) → z_V l G m_X1_all (z_Fm G m_X1_all Q) rc rs (h_11.sI a2 (Int32.toNatClampNeg (h_11.I (a0 + 9) 7)) ((h_11.I a2 (Int32.toNatClampNeg (h_11.I (a0 + 9) 7))) + 1)) 102 [some (.ref a0), some (.int x1), some (.ref a2), some (.int x3), some (.int x4), some (.int x5)] []) ∧ (¬ 2 ≤ ((h_11.sI a2 (Int32.toNatClampNeg (h_11.I (a0 + 9) 7)) ((h_11.I a2 (Int32.toNatClampNeg (h_11.I (a0 + 9) 7))) + 1)).I (a0 + 9) 7) → (x5 < 0 → ∀ v_17 : Int32, v_17 = ((h_11.sI a2 (Int32.toNatClampNeg (h_11.I (a0 + 9) 7)) ((h_11.I a2 (Int32.toNatClampNeg (h_11.I (a0 + 9) 7))) + 1)).I (a0 + 9) 8) → z_V l G m_X1_all (z_Fm G m_X1_all Q) rc rs (h_11.sI a2 (Int32.toNatClampNeg (h_11.I (a0 + 9) 7)) ((h_11.I a2 (Int32.toNatClampNeg (h_11.I (a0 + 9) 7))) + 1)) 102 [some (.ref a0), some (.int x1), some (.ref a2), some (.int x3), some (.int v_17), some (.int x3)] []) ∧ (¬ x5 < 0 → (((h_11.sI a2 (Int32.toNatClampNeg (h_11.I (a0 + 9) 7)) ((h_11.I a2 (Int32.toNatClampNeg (h_11.I (a0 + 9) 7))) + 1)).I (a0 + 9) 8) ≤ x4 → z_V l G m_X1_all (z_Fm G m_X1_all Q) rc rs (h_11.sI a2 (Int32.toNatClampNeg (h_11.I (a0 + 9) 7)) ((h_11.I a2 (Int32.toNatClampNeg (h_11.I (a0 + 9) 7))) + 1)) 102 [some (.ref a0), some (.int x1), some (.ref a2), some (.int x3), some (.int x4), some (.int x5)] []) ∧ (¬ ((h_11.sI a2 (Int32.toNatClampNeg (h_11.I (a0 + 9) 7)) ((h_11.I a2 (Int32.toNatClampNeg (h_11.I (a0 + 9) 7))) + 1)).I (a0 + 9) 8) ≤ x4 → ∀ v_19 : Int32, v_19 = ((h_11.sI a2 (Int32.toNatClampNeg (h_11.I (a0 + 9) 7)) ((h_11.I a2 (Int32.toNatClampNeg (h_11.I (a0 + 9) 7))) + 1)).I (a0 + 9) 8) → z_V l G m_X1_all (z_Fm G m_X1_all Q) rc rs (h_11.sI a2 (Int32.toNatClampNeg (h_11.I (a0 + 9) 7)) ((h_11.I a2 (Int32.toNatClampNeg (h_11.I (a0 + 9) 7))) + 1)) 102 [some (.ref a0), some (.int x1), some (.ref a2), some (.int x3), some (.int v_19), some (.int x3)] [])))))))) : z_V l G m_X1_all (z_Fm G m_X1_all Q) rc rs h 31 [some (.ref a0), some (.int x1), some (.ref a2), some (.int x3), some (.int x4), some (.int x5)] [] := by
  refine z_aload_n (q := 32) (i := 0) (x := a0) dX1_all_31 rfl rfl rfl ?_
  refine z_aload_n (q := 33) (i := 0) (x := a0) dX1_all_32 rfl rfl rfl ?_
  obtain ⟨g_1, hf⟩ := hf
  obtain ⟨b_2, g_3, hf⟩ := hf
  refine z_get 0 4 (q := 36) (v := .ref b_2) rfl (z_lt rfl) (z_L0_T g_1) q510 dX1_all_33 rfl (z_fvR (fun _ _ _ => rfl) g_3) ?_
  obtain ⟨g_4, hf⟩ := hf
  refine z_cVi m_X10_first [] (b_2) (q := 39) (rc2 := rc) (rs2 := rs) (st := [.ref a0]) dX1_all_36 rfl q1180 oV_X10_first rfl rfl ⟨z_le rfl, z_le rfl⟩ (z_le rfl) (z_rcv_of 8 rfl (z_L8_T g_4) rfl) rfl  rfl hf (fun x_5 h_6 hf => ?_)
  refine z_aload_n (q := 40) (i := 0) (x := a0) dX1_all_39 rfl rfl rfl ?_
  obtain ⟨g_7, hf⟩ := hf
  obtain ⟨b_8, g_9, hf⟩ := hf
  refine z_get 0 4 (q := 43) (v := .ref b_8) rfl (z_lt rfl) (z_L0_T g_7) q510 dX1_all_40 rfl (z_fvR (fun _ _ _ => rfl) g_9) ?_
  obtain ⟨g_10, hf⟩ := hf
  refine z_getN 8 1 (q := 46) (v := .ref (b_8 + 3)) rfl (z_lt rfl) (z_L8_T g_10) (z_nwm q334 rfl) dX1_all_43 rfl (z_fvR (fun _ _ _ => rfl) (z_L8_P1 g_10)) ?_
  refine z_cVv m_X1_plays [.int x_5, .ref (b_8 + 3)] (a0) (q := 49) (rc2 := rc) (rs2 := rs) (st := []) dX1_all_46 rfl q1457 oV_X1_plays rfl rfl ⟨z_le rfl, z_le rfl⟩ (z_le rfl) (z_rcv_of 0 rfl (z_L0_T g_7) rfl) rfl  rfl hf (fun h_11 hf => ?_)
  refine z_aload_n (q := 50) (i := 2) (x := a2) dX1_all_49 rfl rfl rfl ?_
  refine z_aload_n (q := 51) (i := 0) (x := a0) dX1_all_50 rfl rfl rfl ?_
  obtain ⟨g_12, hf⟩ := hf
  refine z_get 0 3 (q := 54) (v := .ref (a0 + 9)) rfl (z_lt rfl) (z_L0_T g_12) q508 dX1_all_51 rfl (z_fvR (fun _ _ _ => rfl) (z_L0_P3 g_12)) ?_
  refine z_getN 7 7 (q := 57) (v := .int (h_11.I (a0 + 9) 7)) rfl (z_lt rfl) (z_L7_T (z_L0_N3 g_12)) (z_nwm q261 rfl) dX1_all_54 rfl rfl ?_
  refine z_dup2 (q := 58) dX1_all_57 rfl rfl rfl ?_
  obtain ⟨n_13, g_14, hf⟩ := hf
  obtain ⟨g_15, hf⟩ := hf
  refine z_iald (q := 59) (n := n_13) g_14 g_15 dX1_all_58 rfl ?_
  refine z_iconst (q := 60) (v := 1) dX1_all_59 rfl rfl ?_
  refine z_iadd (q := 61) dX1_all_60 rfl ?_
  obtain ⟨g_16, hf⟩ := hf
  refine z_iast (q := 62) (n := n_13) g_14 g_16 dX1_all_61 rfl ?_
  refine z_aload_n (q := 63) (i := 0) (x := a0) dX1_all_62 rfl rfl rfl ?_
  refine z_get 0 3 (q := 66) (v := .ref (a0 + 9)) rfl (z_lt rfl) (z_L0_T g_12) q508 dX1_all_63 rfl (z_fvR (fun _ _ _ => rfl) (z_L0_P3 g_12)) ?_
  refine z_getN 7 7 (q := 69) (v := .int ((h_11.sI a2 (Int32.toNatClampNeg (h_11.I (a0 + 9) 7)) ((h_11.I a2 (Int32.toNatClampNeg (h_11.I (a0 + 9) 7))) + 1)).I (a0 + 9) 7)) rfl (z_lt rfl) (z_L7_T (z_L0_N3 g_12)) (z_nwm q261 rfl) dX1_all_66 rfl rfl ?_
  refine z_iconst (q := 70) (v := 2) dX1_all_69 rfl rfl ?_
  refine z_icmp_ge (q := 73) (tgt := 102) dX1_all_70 rfl rfl (fun hc => ?_) (fun hc => ?_)
  · have hf := hf.1 hc
    exact hf
  · have hf := hf.2 hc
    refine z_iload (q := 75) (i := 5) (x := x5) dX1_all_73 rfl rfl ?_
    refine z_if_lt (q := 78) (tgt := 90) dX1_all_75 rfl rfl (fun hc => ?_) (fun hc => ?_)
    · have hf := hf.1 hc
      refine z_aload_n (q := 91) (i := 0) (x := a0) dX1_all_90 rfl rfl rfl ?_
      refine z_get 0 3 (q := 94) (v := .ref (a0 + 9)) rfl (z_lt rfl) (z_L0_T g_12) q508 dX1_all_91 rfl (z_fvR (fun _ _ _ => rfl) (z_L0_P3 g_12)) ?_
      refine z_getN 7 8 (q := 97) (v := .int ((h_11.sI a2 (Int32.toNatClampNeg (h_11.I (a0 + 9) 7)) ((h_11.I a2 (Int32.toNatClampNeg (h_11.I (a0 + 9) 7))) + 1)).I (a0 + 9) 8)) rfl (z_lt rfl) (z_L7_T (z_L0_N3 g_12)) (z_nwm q263 rfl) dX1_all_94 rfl rfl ?_
      refine z_nmI (fun v_17 hv_18 => ?_)
      have hf := hf v_17 hv_18
      refine z_istore (q := 99) (i := 4) (ls2 := [some (.ref a0), some (.int x1), some (.ref a2), some (.int x3), some (.int v_17), some (.int x5)]) (x := v_17) dX1_all_97 (z_lt rfl) rfl rfl ?_
      refine z_iload_n (q := 100) (i := 3) (x := x3) dX1_all_99 rfl rfl rfl ?_
      refine z_istore (q := 102) (i := 5) (ls2 := [some (.ref a0), some (.int x1), some (.ref a2), some (.int x3), some (.int v_17), some (.int x3)]) (x := x3) dX1_all_100 (z_lt rfl) rfl rfl ?_
      exact hf
    · have hf := hf.2 hc
      refine z_aload_n (q := 79) (i := 0) (x := a0) dX1_all_78 rfl rfl rfl ?_
      refine z_get 0 3 (q := 82) (v := .ref (a0 + 9)) rfl (z_lt rfl) (z_L0_T g_12) q508 dX1_all_79 rfl (z_fvR (fun _ _ _ => rfl) (z_L0_P3 g_12)) ?_
      refine z_getN 7 8 (q := 85) (v := .int ((h_11.sI a2 (Int32.toNatClampNeg (h_11.I (a0 + 9) 7)) ((h_11.I a2 (Int32.toNatClampNeg (h_11.I (a0 + 9) 7))) + 1)).I (a0 + 9) 8)) rfl (z_lt rfl) (z_L7_T (z_L0_N3 g_12)) (z_nwm q263 rfl) dX1_all_82 rfl rfl ?_
      refine z_iload (q := 87) (i := 4) (x := x4) dX1_all_85 rfl rfl ?_
      refine z_icmp_le (q := 90) (tgt := 102) dX1_all_87 rfl rfl (fun hc => ?_) (fun hc => ?_)
      · have hf := hf.1 hc
        exact hf
      · have hf := hf.2 hc
        refine z_aload_n (q := 91) (i := 0) (x := a0) dX1_all_90 rfl rfl rfl ?_
        refine z_get 0 3 (q := 94) (v := .ref (a0 + 9)) rfl (z_lt rfl) (z_L0_T g_12) q508 dX1_all_91 rfl (z_fvR (fun _ _ _ => rfl) (z_L0_P3 g_12)) ?_
        refine z_getN 7 8 (q := 97) (v := .int ((h_11.sI a2 (Int32.toNatClampNeg (h_11.I (a0 + 9) 7)) ((h_11.I a2 (Int32.toNatClampNeg (h_11.I (a0 + 9) 7))) + 1)).I (a0 + 9) 8)) rfl (z_lt rfl) (z_L7_T (z_L0_N3 g_12)) (z_nwm q263 rfl) dX1_all_94 rfl rfl ?_
        refine z_nmI (fun v_19 hv_20 => ?_)
        have hf := hf v_19 hv_20
        refine z_istore (q := 99) (i := 4) (ls2 := [some (.ref a0), some (.int x1), some (.ref a2), some (.int x3), some (.int v_19), some (.int x5)]) (x := v_19) dX1_all_97 (z_lt rfl) rfl rfl ?_
        refine z_iload_n (q := 100) (i := 3) (x := x3) dX1_all_99 rfl rfl rfl ?_
        refine z_istore (q := 102) (i := 5) (ls2 := [some (.ref a0), some (.int x1), some (.ref a2), some (.int x3), some (.int v_19), some (.int x3)]) (x := x3) dX1_all_100 (z_lt rfl) rfl rfl ?_
        exact hf

theorem b_X1_all_102 {l : Launch} {G : z_G} {rc rs : Nat} {a0 : Nat} {x1 : Int32} {a2 : Nat} {x3 : Int32} {x4 : Int32} {x5 : Int32} {h : z_H} {Q : z_Q}  (hf : z_L0 h a0 ∧ z_Ct l G m_X1_nextRow [.ref a0] h (z_Qi (fun x_2 h_3 => (x_2 = 0 → (x1 = 0 → Q (some (.int (x3 + 1))) h_3) ∧ (¬ x1 = 0 → (5 ≤ x1 → Q (some (.int (if x1 = 5 then x4 else x5))) h_3) ∧ (¬ 5 ≤ x1 → ∃ n_10, h_3.T a2 = (1, n_10) ∧ vp_in (x1 - 1) n_10 ∧ Q (some (.int (h_3.I a2 (Int32.toNatClampNeg (x1 - 1))))) h_3))) ∧ (¬ x_2 = 0 → z_V l G m_X1_all (z_Fm G m_X1_all Q) rc rs h_3 31 [some (.ref a0), some (.int x1), some (.ref a2), some (.int (x3 + 1)), some (.int x4), some (.int x5)] [])))) : z_V l G m_X1_all (z_Fm G m_X1_all Q) rc rs h 102 [some (.ref a0), some (.int x1), some (.ref a2), some (.int x3), some (.int x4), some (.int x5)] [] := by
  refine z_iinc (q := 105) (i := 3) (x := x3) (v := (x3 + 1)) (ls2 := [some (.ref a0), some (.int x1), some (.ref a2), some (.int (x3 + 1)), some (.int x4), some (.int x5)]) dX1_all_102 rfl rfl (z_lt rfl) rfl rfl ?_
  refine z_aload_n (q := 106) (i := 0) (x := a0) dX1_all_105 rfl rfl rfl ?_
  obtain ⟨g_1, hf⟩ := hf
  refine z_cVi m_X1_nextRow [] (a0) (q := 109) (rc2 := rc) (rs2 := rs) (st := []) dX1_all_106 rfl q1465 oV_X1_nextRow rfl rfl ⟨z_le rfl, z_le rfl⟩ (z_le rfl) (z_rcv_of 0 rfl (z_L0_T g_1) rfl) rfl  rfl hf (fun x_2 h_3 hf => ?_)
  refine z_if_ne (q := 112) (tgt := 31) dX1_all_109 rfl rfl (fun hc => ?_) (fun hc => ?_)
  · have hf := hf.2 hc
    exact hf
  · have hf := hf.1 hc
    refine z_iload_n (q := 113) (i := 1) (x := x1) dX1_all_112 rfl rfl rfl ?_
    refine z_if_ne (q := 116) (tgt := 120) dX1_all_113 rfl rfl (fun hc => ?_) (fun hc => ?_)
    · have hf := hf.2 hc
      refine z_iload_n (q := 121) (i := 1) (x := x1) dX1_all_120 rfl rfl rfl ?_
      refine z_iconst (q := 122) (v := 5) dX1_all_121 rfl rfl ?_
      refine z_icmp_ge (q := 125) (tgt := 133) dX1_all_122 rfl rfl (fun hc => ?_) (fun hc => ?_)
      · have hf := hf.1 hc
        refine z_iload_n (q := 134) (i := 1) (x := x1) dX1_all_133 rfl rfl rfl ?_
        refine z_iconst (q := 135) (v := 5) dX1_all_134 rfl rfl ?_
        have hk : z_V l G m_X1_all (z_Fm G m_X1_all Q) rc rs h_3 145 [some (.ref a0), some (.int x1), some (.ref a2), some (.int (x3 + 1)), some (.int x4), some (.int x5)] [.int (if x1 = 5 then x4 else x5)] := by
          exact z_iret dX1_all_145 rfl hf
        refine z_icmp_ne (q := 138) (tgt := 143) dX1_all_135 rfl rfl (fun hc => ?_) (fun hc => ?_)
        · have hk := (z_ite hk).2 hc
          refine z_iload (q := 145) (i := 5) (x := x5) dX1_all_143 rfl rfl ?_
          exact hk
        · have hk := (z_ite hk).1 hc
          refine z_iload (q := 140) (i := 4) (x := x4) dX1_all_138 rfl rfl ?_
          refine z_goto (q := 145) dX1_all_140 rfl ?_
          exact hk
      · have hf := hf.2 hc
        refine z_aload_n (q := 126) (i := 2) (x := a2) dX1_all_125 rfl rfl rfl ?_
        refine z_iload_n (q := 127) (i := 1) (x := x1) dX1_all_126 rfl rfl rfl ?_
        refine z_iconst (q := 128) (v := 1) dX1_all_127 rfl rfl ?_
        refine z_isub (q := 129) dX1_all_128 rfl ?_
        obtain ⟨n_10, g_11, hf⟩ := hf
        obtain ⟨g_12, hf⟩ := hf
        refine z_iald (q := 130) (n := n_10) g_11 g_12 dX1_all_129 rfl ?_
        refine z_goto (q := 145) dX1_all_130 rfl ?_
        exact z_iret dX1_all_145 rfl hf
    · have hf := hf.1 hc
      refine z_iload_n (q := 117) (i := 3) (x := (x3 + 1)) dX1_all_116 rfl rfl rfl ?_
      refine z_goto (q := 145) dX1_all_117 rfl ?_
      exact z_iret dX1_all_145 rfl hf

theorem u_X1_allOrders {l : Launch} {G : z_G}  {h : z_H} {Q : z_Q} (hst : l.stackTraces = false)  (hf : z_Ct l G m_X4_init [.ref (h.n + 1)] ((h.nw (6, 5)).nw (12, 0)) (z_Qv (fun h_1 => ∃ n_2, h_1.T (h.n) = (6, n_2) ∧ vp_in 0 n_2 ∧ (h_1.T (h.n + 1)).1 = 12 ∧ z_Ct l G m_X5_init [.ref (h_1.n)] ((h_1.sP (h.n) (Int32.toNatClampNeg 0) (some (h.n + 1))).nw (13, 0)) (z_Qv (fun h_6 => ∃ n_7, h_6.T (h.n) = (6, n_7) ∧ vp_in 1 n_7 ∧ (h_6.T (h_1.n)).1 = 13 ∧ z_Ct l G m_X6_init [.ref (h_6.n)] ((h_6.sP (h.n) (Int32.toNatClampNeg 1) (some (h_1.n))).nw (14, 0)) (z_Qv (fun h_11 => ∃ n_12, h_11.T (h.n) = (6, n_12) ∧ vp_in 2 n_12 ∧ (h_11.T (h_6.n)).1 = 14 ∧ z_Ct l G m_X7_init [.ref (h_11.n)] ((h_11.sP (h.n) (Int32.toNatClampNeg 2) (some (h_6.n))).nw (15, 0)) (z_Qv (fun h_16 => ∃ n_17, h_16.T (h.n) = (6, n_17) ∧ vp_in 3 n_17 ∧ (h_16.T (h_11.n)).1 = 15 ∧ z_Ct l G m_X8_init [.ref (h_16.n)] ((h_16.sP (h.n) (Int32.toNatClampNeg 3) (some (h_11.n))).nw (16, 0)) (z_Qv (fun h_21 => ∃ n_22, h_21.T (h.n) = (6, n_22) ∧ vp_in 4 n_22 ∧ (h_21.T (h_16.n)).1 = 16 ∧ Q (some (.ref (h.n))) (h_21.sP (h.n) (Int32.toNatClampNeg 4) (some (h_16.n)))))))))))))) : z_Ct l G m_X1_allOrders [] h Q := by
  refine z_Ct.of (ls := []) hst rfl (by decide +kernel) (z_le rfl) rfl ?_
  show z_V l G m_X1_allOrders (z_Fm G m_X1_allOrders Q) 6 5 h 0 [] []
  refine z_iconst (q := 1) (v := 5) dX1_allOrders_0 rfl rfl ?_
  refine z_newq 6 (q := 4) (N := 5) (rc2 := 5) (rs2 := 0) (by decide) rfl (by simp [z_ao]) q207 (by decide) rfl (z_le rfl) dX1_allOrders_1 rfl rfl rfl ?_
  refine z_dup (q := 5) dX1_allOrders_4 rfl rfl ?_
  refine z_iconst (q := 6) (v := 0) dX1_allOrders_5 rfl rfl ?_
  refine z_new 2 (q := 9) (rc2 := 4) (rs2 := 0) rfl q209 q210 q125 dX1_allOrders_6 rfl rfl rfl ?_
  refine z_dup (q := 10) dX1_allOrders_9 rfl rfl ?_
  refine z_cINv m_X4_init [] ((h.n + 1)) (q := 13) (rc2 := 4) (rs2 := 0) (st := [.ref (h.n + 1), .int 0, .ref (h.n), .ref (h.n)]) dX1_allOrders_10 rfl (z_nwm q211 rfl) oI_X4_init rfl rfl ⟨z_le rfl, z_le rfl⟩ (z_le rfl) rfl  rfl hf (fun h_1 hf => ?_)
  obtain ⟨n_2, g_3, hf⟩ := hf
  obtain ⟨g_4, hf⟩ := hf
  obtain ⟨g_5, hf⟩ := hf
  refine z_aast (q := 14) (n := n_2) g_3 (by decide) g_5 ⟨_, rfl, _, rfl, Or.inr (z_nwm q2391 rfl)⟩ g_4 dX1_allOrders_13 rfl ?_
  refine z_dup (q := 15) dX1_allOrders_14 rfl rfl ?_
  refine z_iconst (q := 16) (v := 1) dX1_allOrders_15 rfl rfl ?_
  refine z_new 3 (q := 19) (rc2 := 3) (rs2 := 0) rfl q219 q220 q126 dX1_allOrders_16 rfl rfl rfl ?_
  refine z_dup (q := 20) dX1_allOrders_19 rfl rfl ?_
  refine z_cINv m_X5_init [] ((h_1.n)) (q := 23) (rc2 := 3) (rs2 := 0) (st := [.ref (h_1.n), .int 1, .ref (h.n), .ref (h.n)]) dX1_allOrders_20 rfl (z_nwm q221 rfl) oI_X5_init rfl rfl ⟨z_le rfl, z_le rfl⟩ (z_le rfl) rfl  rfl hf (fun h_6 hf => ?_)
  obtain ⟨n_7, g_8, hf⟩ := hf
  obtain ⟨g_9, hf⟩ := hf
  obtain ⟨g_10, hf⟩ := hf
  refine z_aast (q := 24) (n := n_7) g_8 (by decide) g_10 ⟨_, rfl, _, rfl, Or.inr (z_nwm q2392 rfl)⟩ g_9 dX1_allOrders_23 rfl ?_
  refine z_dup (q := 25) dX1_allOrders_24 rfl rfl ?_
  refine z_iconst (q := 26) (v := 2) dX1_allOrders_25 rfl rfl ?_
  refine z_new 4 (q := 29) (rc2 := 2) (rs2 := 0) rfl q226 q227 q127 dX1_allOrders_26 rfl rfl rfl ?_
  refine z_dup (q := 30) dX1_allOrders_29 rfl rfl ?_
  refine z_cINv m_X6_init [] ((h_6.n)) (q := 33) (rc2 := 2) (rs2 := 0) (st := [.ref (h_6.n), .int 2, .ref (h.n), .ref (h.n)]) dX1_allOrders_30 rfl (z_nwm q228 rfl) oI_X6_init rfl rfl ⟨z_le rfl, z_le rfl⟩ (z_le rfl) rfl  rfl hf (fun h_11 hf => ?_)
  obtain ⟨n_12, g_13, hf⟩ := hf
  obtain ⟨g_14, hf⟩ := hf
  obtain ⟨g_15, hf⟩ := hf
  refine z_aast (q := 34) (n := n_12) g_13 (by decide) g_15 ⟨_, rfl, _, rfl, Or.inr (z_nwm q2393 rfl)⟩ g_14 dX1_allOrders_33 rfl ?_
  refine z_dup (q := 35) dX1_allOrders_34 rfl rfl ?_
  refine z_iconst (q := 36) (v := 3) dX1_allOrders_35 rfl rfl ?_
  refine z_new 5 (q := 39) (rc2 := 1) (rs2 := 0) rfl q233 q234 q128 dX1_allOrders_36 rfl rfl rfl ?_
  refine z_dup (q := 40) dX1_allOrders_39 rfl rfl ?_
  refine z_cINv m_X7_init [] ((h_11.n)) (q := 43) (rc2 := 1) (rs2 := 0) (st := [.ref (h_11.n), .int 3, .ref (h.n), .ref (h.n)]) dX1_allOrders_40 rfl (z_nwm q235 rfl) oI_X7_init rfl rfl ⟨z_le rfl, z_le rfl⟩ (z_le rfl) rfl  rfl hf (fun h_16 hf => ?_)
  obtain ⟨n_17, g_18, hf⟩ := hf
  obtain ⟨g_19, hf⟩ := hf
  obtain ⟨g_20, hf⟩ := hf
  refine z_aast (q := 44) (n := n_17) g_18 (by decide) g_20 ⟨_, rfl, _, rfl, Or.inr (z_nwm q2394 rfl)⟩ g_19 dX1_allOrders_43 rfl ?_
  refine z_dup (q := 45) dX1_allOrders_44 rfl rfl ?_
  refine z_iconst (q := 46) (v := 4) dX1_allOrders_45 rfl rfl ?_
  refine z_new 6 (q := 49) (rc2 := 0) (rs2 := 0) rfl q240 q241 q129 dX1_allOrders_46 rfl rfl rfl ?_
  refine z_dup (q := 50) dX1_allOrders_49 rfl rfl ?_
  refine z_cINv m_X8_init [] ((h_16.n)) (q := 53) (rc2 := 0) (rs2 := 0) (st := [.ref (h_16.n), .int 4, .ref (h.n), .ref (h.n)]) dX1_allOrders_50 rfl (z_nwm q242 rfl) oI_X8_init rfl rfl ⟨z_le rfl, z_le rfl⟩ (z_le rfl) rfl  rfl hf (fun h_21 hf => ?_)
  obtain ⟨n_22, g_23, hf⟩ := hf
  obtain ⟨g_24, hf⟩ := hf
  obtain ⟨g_25, hf⟩ := hf
  refine z_aast (q := 54) (n := n_22) g_23 (by decide) g_25 ⟨_, rfl, _, rfl, Or.inr (z_nwm q2395 rfl)⟩ g_24 dX1_allOrders_53 rfl ?_
  exact z_aret (r := some (h.n)) rfl dX1_allOrders_54 rfl (Or.inr ⟨_, rfl⟩) hf

theorem u_X1_beginner {l : Launch} {G : z_G} {a0 : Nat} {x1 : Int32} {h : z_H} {Q : z_Q} (hst : l.stackTraces = false)  (hf : z_Ct l G m_X1_in [.int x1, .int 0, .int 2] h (z_Qi (fun x_1 h_2 => (x_1 = 0 → Q (some (.int (-1))) h_2) ∧ (¬ x_1 = 0 → z_L0 h_2 a0 ∧ z_Ct l G m_X1_firstRow [.ref a0] h_2 (z_Qi (fun x_4 h_5 => (x_4 = 0 → Q (some (.int (-1))) h_5) ∧ (¬ x_4 = 0 → z_V l G m_X1_beginner (z_Fm G m_X1_beginner Q) 0 0 (h_5.nw (1, 3)) 22 [some (.ref a0), some (.int x1), some (.ref (h_5.n)), none] []))))))) : z_Ct l G m_X1_beginner [.ref a0, .int x1] h Q := by
  refine z_Ct.of (ls := [some (.ref a0), some (.int x1), none, none]) hst rfl (by decide +kernel) (z_le rfl) rfl ?_
  show z_V l G m_X1_beginner (z_Fm G m_X1_beginner Q) 2 11 h 0 [some (.ref a0), some (.int x1), none, none] []
  refine z_iload_n (q := 1) (i := 1) (x := x1) dX1_beginner_0 rfl rfl rfl ?_
  refine z_iconst (q := 2) (v := 0) dX1_beginner_1 rfl rfl ?_
  refine z_iconst (q := 3) (v := 2) dX1_beginner_2 rfl rfl ?_
  refine z_cSi m_X1_in [.int x1, .int 0, .int 2] (q := 6) (rc2 := 2) (rs2 := 11) (st := []) dX1_beginner_3 rfl q1259 oS_X1_in rfl rfl ⟨z_le rfl, z_le rfl⟩ (z_le rfl) rfl  rfl hf (fun x_1 h_2 hf => ?_)
  refine z_if_eq (q := 9) (tgt := 16) dX1_beginner_6 rfl rfl (fun hc => ?_) (fun hc => ?_)
  · have hf := hf.1 hc
    refine z_iconst (q := 17) (v := (-1)) dX1_beginner_16 rfl rfl ?_
    exact z_iret dX1_beginner_17 rfl hf
  · have hf := hf.2 hc
    refine z_aload_n (q := 10) (i := 0) (x := a0) dX1_beginner_9 rfl rfl rfl ?_
    obtain ⟨g_3, hf⟩ := hf
    refine z_cVi m_X1_firstRow [] (a0) (q := 13) (rc2 := 1) (rs2 := 3) (st := []) dX1_beginner_10 rfl q1449 oV_X1_firstRow rfl rfl ⟨z_le rfl, z_le rfl⟩ (z_le rfl) (z_rcv_of 0 rfl (z_L0_T g_3) rfl) rfl  rfl hf (fun x_4 h_5 hf => ?_)
    refine z_if_ne (q := 16) (tgt := 18) dX1_beginner_13 rfl rfl (fun hc => ?_) (fun hc => ?_)
    · have hf := hf.2 hc
      refine z_iconst (q := 19) (v := 3) dX1_beginner_18 rfl rfl ?_
      refine z_newa 1 (q := 21) (N := 3) (rc2 := 0) (rs2 := 0) (z_lt rfl) (z_lt rfl) rfl q295 (by decide) rfl (z_le rfl) dX1_beginner_19 rfl rfl rfl ?_
      refine z_astore_n (q := 22) (i := 2) (ls2 := [some (.ref a0), some (.int x1), some (.ref (h_5.n)), none]) (x := (h_5.n)) dX1_beginner_21 rfl (z_lt rfl) rfl rfl ?_
      exact hf
    · have hf := hf.1 hc
      refine z_iconst (q := 17) (v := (-1)) dX1_beginner_16 rfl rfl ?_
      exact z_iret dX1_beginner_17 rfl hf

theorem b_X1_beginner_22 {l : Launch} {G : z_G} {rc rs : Nat} {a0 : Nat} {x1 : Int32} {a2 : Nat} {h : z_H} {Q : z_Q}  (hf : z_V l G m_X1_beginner (z_Fm G m_X1_beginner Q) rc rs h 24 [some (.ref a0), some (.int x1), some (.ref a2), some (.int 0)] []) : z_V l G m_X1_beginner (z_Fm G m_X1_beginner Q) rc rs h 22 [some (.ref a0), some (.int x1), some (.ref a2), none] [] := by
  refine z_iconst (q := 23) (v := 0) dX1_beginner_22 rfl rfl ?_
  refine z_istore_n (q := 24) (i := 3) (ls2 := [some (.ref a0), some (.int x1), some (.ref a2), some (.int 0)]) (x := 0) dX1_beginner_23 rfl (z_lt rfl) rfl rfl ?_
  exact hf

theorem b_X1_beginner_24 {l : Launch} {G : z_G} {rc rs : Nat} {a0 : Nat} {x1 : Int32} {a2 : Nat} {x3 : Int32} {h : z_H} {Q : z_Q}  (hf : (1 < x3 → z_L0 h a0 ∧ z_Ct l G m_X1_nextRow [.ref a0] h (z_Qi (fun x_2 h_3 => (x_2 = 0 → ∃ n_4, h_3.T a2 = (1, n_4) ∧ vp_in x1 n_4 ∧ Q (some (.int (h_3.I a2 (Int32.toNatClampNeg x1)))) h_3) ∧ (¬ x_2 = 0 → z_V l G m_X1_beginner (z_Fm G m_X1_beginner Q) rc rs h_3 22 [some (.ref a0), some (.int x1), some (.ref a2), none] [])))) ∧ (¬ 1 < x3 → z_L0 h a0 ∧ ∃ b_8, (h.P a0 4) = some b_8 ∧ z_L8 h b_8 ∧ z_Ct l G m_X1_plays [.ref a0, .int x3, .ref (b_8 + 3)] h (z_Qv (fun h_11 => z_L0 h_11 a0 ∧ ∃ n_13, h_11.T a2 = (1, n_13) ∧ vp_in (if (h_11.I (a0 + 9) 7) = x3 then 0 else (if 2 ≤ (h_11.I (a0 + 9) 7) then 2 else 1)) n_13 ∧ vp_in (if (h_11.I (a0 + 9) 7) = x3 then 0 else (if 2 ≤ (h_11.I (a0 + 9) 7) then 2 else 1)) n_13 ∧ z_V l G m_X1_beginner (z_Fm G m_X1_beginner Q) rc rs (h_11.sI a2 (Int32.toNatClampNeg (if (h_11.I (a0 + 9) 7) = x3 then 0 else (if 2 ≤ (h_11.I (a0 + 9) 7) then 2 else 1))) ((h_11.I a2 (Int32.toNatClampNeg (if (h_11.I (a0 + 9) 7) = x3 then 0 else (if 2 ≤ (h_11.I (a0 + 9) 7) then 2 else 1)))) + 1)) 24 [some (.ref a0), some (.int x1), some (.ref a2), some (.int (x3 + 1))] [])))) : z_V l G m_X1_beginner (z_Fm G m_X1_beginner Q) rc rs h 24 [some (.ref a0), some (.int x1), some (.ref a2), some (.int x3)] [] := by
  refine z_iload_n (q := 25) (i := 3) (x := x3) dX1_beginner_24 rfl rfl rfl ?_
  refine z_iconst (q := 26) (v := 1) dX1_beginner_25 rfl rfl ?_
  refine z_icmp_gt (q := 29) (tgt := 84) dX1_beginner_26 rfl rfl (fun hc => ?_) (fun hc => ?_)
  · have hf := hf.1 hc
    refine z_aload_n (q := 85) (i := 0) (x := a0) dX1_beginner_84 rfl rfl rfl ?_
    obtain ⟨g_1, hf⟩ := hf
    refine z_cVi m_X1_nextRow [] (a0) (q := 88) (rc2 := rc) (rs2 := rs) (st := []) dX1_beginner_85 rfl q1465 oV_X1_nextRow rfl rfl ⟨z_le rfl, z_le rfl⟩ (z_le rfl) (z_rcv_of 0 rfl (z_L0_T g_1) rfl) rfl  rfl hf (fun x_2 h_3 hf => ?_)
    refine z_if_ne (q := 91) (tgt := 22) dX1_beginner_88 rfl rfl (fun hc => ?_) (fun hc => ?_)
    · have hf := hf.2 hc
      refine z_prune [true, true, true, false] (ls2 := [some (.ref a0), some (.int x1), some (.ref a2), none]) rfl ?_
      exact hf
    · have hf := hf.1 hc
      refine z_aload_n (q := 92) (i := 2) (x := a2) dX1_beginner_91 rfl rfl rfl ?_
      refine z_iload_n (q := 93) (i := 1) (x := x1) dX1_beginner_92 rfl rfl rfl ?_
      obtain ⟨n_4, g_5, hf⟩ := hf
      obtain ⟨g_6, hf⟩ := hf
      refine z_iald (q := 94) (n := n_4) g_5 g_6 dX1_beginner_93 rfl ?_
      exact z_iret dX1_beginner_94 rfl hf
  · have hf := hf.2 hc
    refine z_aload_n (q := 30) (i := 0) (x := a0) dX1_beginner_29 rfl rfl rfl ?_
    refine z_iload_n (q := 31) (i := 3) (x := x3) dX1_beginner_30 rfl rfl rfl ?_
    refine z_aload_n (q := 32) (i := 0) (x := a0) dX1_beginner_31 rfl rfl rfl ?_
    obtain ⟨g_7, hf⟩ := hf
    obtain ⟨b_8, g_9, hf⟩ := hf
    refine z_get 0 4 (q := 35) (v := .ref b_8) rfl (z_lt rfl) (z_L0_T g_7) q510 dX1_beginner_32 rfl (z_fvR (fun _ _ _ => rfl) g_9) ?_
    obtain ⟨g_10, hf⟩ := hf
    refine z_getN 8 1 (q := 38) (v := .ref (b_8 + 3)) rfl (z_lt rfl) (z_L8_T g_10) (z_nwm q334 rfl) dX1_beginner_35 rfl (z_fvR (fun _ _ _ => rfl) (z_L8_P1 g_10)) ?_
    refine z_cVv m_X1_plays [.int x3, .ref (b_8 + 3)] (a0) (q := 41) (rc2 := rc) (rs2 := rs) (st := []) dX1_beginner_38 rfl q1457 oV_X1_plays rfl rfl ⟨z_le rfl, z_le rfl⟩ (z_le rfl) (z_rcv_of 0 rfl (z_L0_T g_7) rfl) rfl  rfl hf (fun h_11 hf => ?_)
    refine z_aload_n (q := 42) (i := 2) (x := a2) dX1_beginner_41 rfl rfl rfl ?_
    refine z_aload_n (q := 43) (i := 0) (x := a0) dX1_beginner_42 rfl rfl rfl ?_
    obtain ⟨g_12, hf⟩ := hf
    refine z_get 0 3 (q := 46) (v := .ref (a0 + 9)) rfl (z_lt rfl) (z_L0_T g_12) q508 dX1_beginner_43 rfl (z_fvR (fun _ _ _ => rfl) (z_L0_P3 g_12)) ?_
    refine z_getN 7 7 (q := 49) (v := .int (h_11.I (a0 + 9) 7)) rfl (z_lt rfl) (z_L7_T (z_L0_N3 g_12)) (z_nwm q261 rfl) dX1_beginner_46 rfl rfl ?_
    refine z_iload_n (q := 50) (i := 3) (x := x3) dX1_beginner_49 rfl rfl rfl ?_
    have hk : z_V l G m_X1_beginner (z_Fm G m_X1_beginner Q) rc rs h_11 73 [some (.ref a0), some (.int x1), some (.ref a2), some (.int x3)] [.int (if (h_11.I (a0 + 9) 7) = x3 then 0 else (if 2 ≤ (h_11.I (a0 + 9) 7) then 2 else 1)), .ref a2] := by
      refine z_dup2 (q := 74) dX1_beginner_73 rfl rfl rfl ?_
      obtain ⟨n_13, g_14, hf⟩ := hf
      obtain ⟨g_15, hf⟩ := hf
      refine z_iald (q := 75) (n := n_13) g_14 g_15 dX1_beginner_74 rfl ?_
      refine z_iconst (q := 76) (v := 1) dX1_beginner_75 rfl rfl ?_
      refine z_iadd (q := 77) dX1_beginner_76 rfl ?_
      obtain ⟨g_16, hf⟩ := hf
      refine z_iast (q := 78) (n := n_13) g_14 g_16 dX1_beginner_77 rfl ?_
      refine z_iinc (q := 81) (i := 3) (x := x3) (v := (x3 + 1)) (ls2 := [some (.ref a0), some (.int x1), some (.ref a2), some (.int (x3 + 1))]) dX1_beginner_78 rfl rfl (z_lt rfl) rfl rfl ?_
      refine z_goto (q := 24) dX1_beginner_81 rfl ?_
      exact hf
    refine z_icmp_ne (q := 53) (tgt := 57) dX1_beginner_50 rfl rfl (fun hc => ?_) (fun hc => ?_)
    · have hk := (z_ite hk).2 hc
      refine z_aload_n (q := 58) (i := 0) (x := a0) dX1_beginner_57 rfl rfl rfl ?_
      refine z_get 0 3 (q := 61) (v := .ref (a0 + 9)) rfl (z_lt rfl) (z_L0_T g_12) q508 dX1_beginner_58 rfl (z_fvR (fun _ _ _ => rfl) (z_L0_P3 g_12)) ?_
      refine z_getN 7 7 (q := 64) (v := .int (h_11.I (a0 + 9) 7)) rfl (z_lt rfl) (z_L7_T (z_L0_N3 g_12)) (z_nwm q261 rfl) dX1_beginner_61 rfl rfl ?_
      refine z_iconst (q := 65) (v := 2) dX1_beginner_64 rfl rfl ?_
      refine z_icmp_ge (q := 68) (tgt := 72) dX1_beginner_65 rfl rfl (fun hc => ?_) (fun hc => ?_)
      · have hk := (z_ite hk).1 hc
        refine z_iconst (q := 73) (v := 2) dX1_beginner_72 rfl rfl ?_
        exact hk
      · have hk := (z_ite hk).2 hc
        refine z_iconst (q := 69) (v := 1) dX1_beginner_68 rfl rfl ?_
        refine z_goto (q := 73) dX1_beginner_69 rfl ?_
        exact hk
    · have hk := (z_ite hk).1 hc
      refine z_iconst (q := 54) (v := 0) dX1_beginner_53 rfl rfl ?_
      refine z_goto (q := 73) dX1_beginner_54 rfl ?_
      exact hk

theorem u_X1_begins {l : Launch} {G : z_G} {a0 : Nat} {h : z_H} {Q : z_Q} (hst : l.stackTraces = false)  (hf : z_L0 h a0 ∧ ∃ b_2, (h.P a0 4) = some b_2 ∧ z_L8 h b_2 ∧ z_Ct l G m_X10_first [.ref b_2] h (z_Qi (fun x_5 h_6 => z_L9 h_6 (a0 + 23) ∧ z_Ct l G m_X11_begin [.ref (a0 + 23), .int x_5] h_6 (z_Qv (fun h_8 => z_V l G m_X1_begins (z_Fm G m_X1_begins Q) 0 0 h_8 16 [some (.ref a0), some (.int 0)] []))))) : z_Ct l G m_X1_begins [.ref a0] h Q := by
  refine z_Ct.of (ls := [some (.ref a0), none]) hst rfl (by decide +kernel) (z_le rfl) rfl ?_
  show z_V l G m_X1_begins (z_Fm G m_X1_begins Q) 0 0 h 0 [some (.ref a0), none] []
  refine z_aload_n (q := 1) (i := 0) (x := a0) dX1_begins_0 rfl rfl rfl ?_
  obtain ⟨g_1, hf⟩ := hf
  refine z_get 0 6 (q := 4) (v := .ref (a0 + 23)) rfl (z_lt rfl) (z_L0_T g_1) q512 dX1_begins_1 rfl (z_fvR (fun _ _ _ => rfl) (z_L0_P6 g_1)) ?_
  refine z_aload_n (q := 5) (i := 0) (x := a0) dX1_begins_4 rfl rfl rfl ?_
  obtain ⟨b_2, g_3, hf⟩ := hf
  refine z_get 0 4 (q := 8) (v := .ref b_2) rfl (z_lt rfl) (z_L0_T g_1) q510 dX1_begins_5 rfl (z_fvR (fun _ _ _ => rfl) g_3) ?_
  obtain ⟨g_4, hf⟩ := hf
  refine z_cVi m_X10_first [] (b_2) (q := 11) (rc2 := 0) (rs2 := 0) (st := [.ref (a0 + 23)]) dX1_begins_8 rfl q1180 oV_X10_first rfl rfl ⟨z_le rfl, z_le rfl⟩ (z_le rfl) (z_rcv_of 8 rfl (z_L8_T g_4) rfl) rfl  rfl hf (fun x_5 h_6 hf => ?_)
  obtain ⟨g_7, hf⟩ := hf
  refine z_cVv m_X11_begin [.int x_5] ((a0 + 23)) (q := 14) (rc2 := 0) (rs2 := 0) (st := []) dX1_begins_11 rfl q496 oV_X11_begin rfl rfl ⟨z_le rfl, z_le rfl⟩ (z_le rfl) (z_rcv_of 9 rfl (z_L9_T g_7) rfl) rfl  rfl hf (fun h_8 hf => ?_)
  refine z_iconst (q := 15) (v := 0) dX1_begins_14 rfl rfl ?_
  refine z_istore_n (q := 16) (i := 1) (ls2 := [some (.ref a0), some (.int 0)]) (x := 0) dX1_begins_15 rfl (z_lt rfl) rfl rfl ?_
  exact hf

theorem b_X1_begins_16 {l : Launch} {G : z_G} {a0 : Nat} {x1 : Int32} {h : z_H} {Q : z_Q}  (hf : z_L0 h a0 ∧ ((h.I (a0 + 49) 1) ≤ x1 → z_V l G m_X1_begins (z_Fm G m_X1_begins Q) 0 0 h 53 [some (.ref a0), some (.int 0)] []) ∧ (¬ (h.I (a0 + 49) 1) ≤ x1 → vp_in x1 24 ∧ z_Ct l G m_X11_gets [.ref (a0 + 23), .int 0, .int (h.I (a0 + 50) (Int32.toNatClampNeg x1)), .int 1] h (z_Qv (fun h_3 => z_V l G m_X1_begins (z_Fm G m_X1_begins Q) 0 0 h_3 16 [some (.ref a0), some (.int (x1 + 1))] [])))) : z_V l G m_X1_begins (z_Fm G m_X1_begins Q) 0 0 h 16 [some (.ref a0), some (.int x1)] [] := by
  refine z_iload_n (q := 17) (i := 1) (x := x1) dX1_begins_16 rfl rfl rfl ?_
  refine z_aload_n (q := 18) (i := 0) (x := a0) dX1_begins_17 rfl rfl rfl ?_
  obtain ⟨g_1, hf⟩ := hf
  refine z_get 0 8 (q := 21) (v := .ref (a0 + 49)) rfl (z_lt rfl) (z_L0_T g_1) q514 dX1_begins_18 rfl (z_fvR (fun _ _ _ => rfl) (z_L0_P8 g_1)) ?_
  refine z_getN 10 1 (q := 24) (v := .int (h.I (a0 + 49) 1)) rfl (z_lt rfl) (z_L10_T (z_L0_N8 g_1)) (z_nwm q486 rfl) dX1_begins_21 rfl rfl ?_
  refine z_icmp_ge (q := 27) (tgt := 51) dX1_begins_24 rfl rfl (fun hc => ?_) (fun hc => ?_)
  · have hf := hf.1 hc
    refine z_iconst (q := 52) (v := 0) dX1_begins_51 rfl rfl ?_
    refine z_istore_n (q := 53) (i := 1) (ls2 := [some (.ref a0), some (.int 0)]) (x := 0) dX1_begins_52 rfl (z_lt rfl) rfl rfl ?_
    exact hf
  · have hf := hf.2 hc
    refine z_aload_n (q := 28) (i := 0) (x := a0) dX1_begins_27 rfl rfl rfl ?_
    refine z_get 0 6 (q := 31) (v := .ref (a0 + 23)) rfl (z_lt rfl) (z_L0_T g_1) q512 dX1_begins_28 rfl (z_fvR (fun _ _ _ => rfl) (z_L0_P6 g_1)) ?_
    refine z_iconst (q := 32) (v := 0) dX1_begins_31 rfl rfl ?_
    refine z_aload_n (q := 33) (i := 0) (x := a0) dX1_begins_32 rfl rfl rfl ?_
    refine z_get 0 8 (q := 36) (v := .ref (a0 + 49)) rfl (z_lt rfl) (z_L0_T g_1) q514 dX1_begins_33 rfl (z_fvR (fun _ _ _ => rfl) (z_L0_P8 g_1)) ?_
    refine z_getN 10 0 (q := 39) (v := .ref (a0 + 50)) rfl (z_lt rfl) (z_L10_T (z_L0_N8 g_1)) (z_nwm q484 rfl) dX1_begins_36 rfl (z_fvR (fun _ _ _ => rfl) (z_L10_P0 (z_L0_N8 g_1))) ?_
    refine z_iload_n (q := 40) (i := 1) (x := x1) dX1_begins_39 rfl rfl rfl ?_
    obtain ⟨g_2, hf⟩ := hf
    refine z_iald (q := 41) (n := 24) (z_L10_A0 (z_L0_N8 g_1)) g_2 dX1_begins_40 rfl ?_
    refine z_iconst (q := 42) (v := 1) dX1_begins_41 rfl rfl ?_
    refine z_cVv m_X11_gets [.int 0, .int (h.I (a0 + 50) (Int32.toNatClampNeg x1)), .int 1] ((a0 + 23)) (q := 45) (rc2 := 0) (rs2 := 0) (st := []) dX1_begins_42 rfl q1184 oV_X11_gets rfl rfl ⟨z_le rfl, z_le rfl⟩ (z_le rfl) (z_rcv_of 9 rfl (z_L9_T (z_L0_N6 g_1)) rfl) rfl  rfl hf (fun h_3 hf => ?_)
    refine z_iinc (q := 48) (i := 1) (x := x1) (v := (x1 + 1)) (ls2 := [some (.ref a0), some (.int (x1 + 1))]) dX1_begins_45 rfl rfl (z_lt rfl) rfl rfl ?_
    refine z_goto (q := 16) dX1_begins_48 rfl ?_
    exact hf

theorem b_X1_begins_53 {l : Launch} {G : z_G} {a0 : Nat} {x1 : Int32} {h : z_H} {Q : z_Q}  (hf : z_L0 h a0 ∧ ((h.I (a0 + 51) 1) ≤ x1 → Q none (h.sI a0 14 0)) ∧ (¬ (h.I (a0 + 51) 1) ≤ x1 → vp_in x1 24 ∧ z_Ct l G m_X11_gets [.ref (a0 + 23), .int 1, .int (h.I (a0 + 52) (Int32.toNatClampNeg x1)), .int 1] h (z_Qv (fun h_3 => z_V l G m_X1_begins (z_Fm G m_X1_begins Q) 0 0 h_3 53 [some (.ref a0), some (.int (x1 + 1))] [])))) : z_V l G m_X1_begins (z_Fm G m_X1_begins Q) 0 0 h 53 [some (.ref a0), some (.int x1)] [] := by
  refine z_iload_n (q := 54) (i := 1) (x := x1) dX1_begins_53 rfl rfl rfl ?_
  refine z_aload_n (q := 55) (i := 0) (x := a0) dX1_begins_54 rfl rfl rfl ?_
  obtain ⟨g_1, hf⟩ := hf
  refine z_get 0 9 (q := 58) (v := .ref (a0 + 51)) rfl (z_lt rfl) (z_L0_T g_1) q515 dX1_begins_55 rfl (z_fvR (fun _ _ _ => rfl) (z_L0_P9 g_1)) ?_
  refine z_getN 10 1 (q := 61) (v := .int (h.I (a0 + 51) 1)) rfl (z_lt rfl) (z_L10_T (z_L0_N9 g_1)) (z_nwm q486 rfl) dX1_begins_58 rfl rfl ?_
  refine z_icmp_ge (q := 64) (tgt := 88) dX1_begins_61 rfl rfl (fun hc => ?_) (fun hc => ?_)
  · have hf := hf.1 hc
    refine z_aload_n (q := 89) (i := 0) (x := a0) dX1_begins_88 rfl rfl rfl ?_
    refine z_iconst (q := 90) (v := 0) dX1_begins_89 rfl rfl ?_
    refine z_putI 0 14 (q := 93) (x := 0) (v := .int 0) rfl (z_lt rfl) (z_L0_T g_1) q520 rfl dX1_begins_90 rfl rfl rfl rfl (fun _ _ _ => rfl) ?_
    exact z_vret dX1_begins_93 rfl hf
  · have hf := hf.2 hc
    refine z_aload_n (q := 65) (i := 0) (x := a0) dX1_begins_64 rfl rfl rfl ?_
    refine z_get 0 6 (q := 68) (v := .ref (a0 + 23)) rfl (z_lt rfl) (z_L0_T g_1) q512 dX1_begins_65 rfl (z_fvR (fun _ _ _ => rfl) (z_L0_P6 g_1)) ?_
    refine z_iconst (q := 69) (v := 1) dX1_begins_68 rfl rfl ?_
    refine z_aload_n (q := 70) (i := 0) (x := a0) dX1_begins_69 rfl rfl rfl ?_
    refine z_get 0 9 (q := 73) (v := .ref (a0 + 51)) rfl (z_lt rfl) (z_L0_T g_1) q515 dX1_begins_70 rfl (z_fvR (fun _ _ _ => rfl) (z_L0_P9 g_1)) ?_
    refine z_getN 10 0 (q := 76) (v := .ref (a0 + 52)) rfl (z_lt rfl) (z_L10_T (z_L0_N9 g_1)) (z_nwm q484 rfl) dX1_begins_73 rfl (z_fvR (fun _ _ _ => rfl) (z_L10_P0 (z_L0_N9 g_1))) ?_
    refine z_iload_n (q := 77) (i := 1) (x := x1) dX1_begins_76 rfl rfl rfl ?_
    obtain ⟨g_2, hf⟩ := hf
    refine z_iald (q := 78) (n := 24) (z_L10_A0 (z_L0_N9 g_1)) g_2 dX1_begins_77 rfl ?_
    refine z_iconst (q := 79) (v := 1) dX1_begins_78 rfl rfl ?_
    refine z_cVv m_X11_gets [.int 1, .int (h.I (a0 + 52) (Int32.toNatClampNeg x1)), .int 1] ((a0 + 23)) (q := 82) (rc2 := 0) (rs2 := 0) (st := []) dX1_begins_79 rfl q1184 oV_X11_gets rfl rfl ⟨z_le rfl, z_le rfl⟩ (z_le rfl) (z_rcv_of 9 rfl (z_L9_T (z_L0_N6 g_1)) rfl) rfl  rfl hf (fun h_3 hf => ?_)
    refine z_iinc (q := 85) (i := 1) (x := x1) (v := (x1 + 1)) (ls2 := [some (.ref a0), some (.int (x1 + 1))]) dX1_begins_82 rfl rfl (z_lt rfl) rfl rfl ?_
    refine z_goto (q := 53) dX1_begins_85 rfl ?_
    exact hf

theorem u_X1_begins_2 {l : Launch} {G : z_G} {a0 : Nat} {a1 : Nat} {h : z_H} {Q : z_Q} (hst : l.stackTraces = false)  (hf : z_L10 h a0 ∧ z_L10 h a1 ∧ ((h.I a0 1) ≤ (h.I a1 1) → z_V l G m_X1_begins_2 (z_Fm G m_X1_begins_2 Q) 0 0 h 15 [some (.ref a0), some (.ref a1), some (.int 0)] []) ∧ (¬ (h.I a0 1) ≤ (h.I a1 1) → Q (some (.int 0)) h)) : z_Ct l G m_X1_begins_2 [.ref a0, .ref a1] h Q := by
  refine z_Ct.of (ls := [some (.ref a0), some (.ref a1), none]) hst rfl (by decide +kernel) (z_le rfl) rfl ?_
  show z_V l G m_X1_begins_2 (z_Fm G m_X1_begins_2 Q) 0 0 h 0 [some (.ref a0), some (.ref a1), none] []
  refine z_aload_n (q := 1) (i := 0) (x := a0) dX1_begins_2_0 rfl rfl rfl ?_
  obtain ⟨g_1, hf⟩ := hf
  refine z_getN 10 1 (q := 4) (v := .int (h.I a0 1)) rfl (z_lt rfl) (z_L10_T g_1) (z_nwm q486 rfl) dX1_begins_2_1 rfl rfl ?_
  refine z_aload_n (q := 5) (i := 1) (x := a1) dX1_begins_2_4 rfl rfl rfl ?_
  obtain ⟨g_2, hf⟩ := hf
  refine z_getN 10 1 (q := 8) (v := .int (h.I a1 1)) rfl (z_lt rfl) (z_L10_T g_2) (z_nwm q486 rfl) dX1_begins_2_5 rfl rfl ?_
  refine z_icmp_le (q := 11) (tgt := 13) dX1_begins_2_8 rfl rfl (fun hc => ?_) (fun hc => ?_)
  · have hf := hf.1 hc
    refine z_iconst (q := 14) (v := 0) dX1_begins_2_13 rfl rfl ?_
    refine z_istore_n (q := 15) (i := 2) (ls2 := [some (.ref a0), some (.ref a1), some (.int 0)]) (x := 0) dX1_begins_2_14 rfl (z_lt rfl) rfl rfl ?_
    exact hf
  · have hf := hf.2 hc
    refine z_iconst (q := 12) (v := 0) dX1_begins_2_11 rfl rfl ?_
    exact z_zret dX1_begins_2_12 rfl (z_nb01 z_b0) hf

theorem b_X1_begins_2_15 {l : Launch} {G : z_G} {a0 : Nat} {a1 : Nat} {x2 : Int32} {h : z_H} {Q : z_Q}  (hf : z_L10 h a0 ∧ ((h.I a0 1) ≤ x2 → Q (some (.int 1)) h) ∧ (¬ (h.I a0 1) ≤ x2 → vp_in x2 24 ∧ z_L10 h a1 ∧ vp_in x2 24 ∧ ((h.I (a0 + 1) (Int32.toNatClampNeg x2)) = (h.I (a1 + 1) (Int32.toNatClampNeg x2)) → z_V l G m_X1_begins_2 (z_Fm G m_X1_begins_2 Q) 0 0 h 15 [some (.ref a0), some (.ref a1), some (.int (x2 + 1))] []) ∧ (¬ (h.I (a0 + 1) (Int32.toNatClampNeg x2)) = (h.I (a1 + 1) (Int32.toNatClampNeg x2)) → Q (some (.int 0)) h))) : z_V l G m_X1_begins_2 (z_Fm G m_X1_begins_2 Q) 0 0 h 15 [some (.ref a0), some (.ref a1), some (.int x2)] [] := by
  refine z_iload_n (q := 16) (i := 2) (x := x2) dX1_begins_2_15 rfl rfl rfl ?_
  refine z_aload_n (q := 17) (i := 0) (x := a0) dX1_begins_2_16 rfl rfl rfl ?_
  obtain ⟨g_1, hf⟩ := hf
  refine z_getN 10 1 (q := 20) (v := .int (h.I a0 1)) rfl (z_lt rfl) (z_L10_T g_1) (z_nwm q486 rfl) dX1_begins_2_17 rfl rfl ?_
  refine z_icmp_ge (q := 23) (tgt := 46) dX1_begins_2_20 rfl rfl (fun hc => ?_) (fun hc => ?_)
  · have hf := hf.1 hc
    refine z_iconst (q := 47) (v := 1) dX1_begins_2_46 rfl rfl ?_
    exact z_zret dX1_begins_2_47 rfl (z_nb01 z_b1) hf
  · have hf := hf.2 hc
    refine z_aload_n (q := 24) (i := 0) (x := a0) dX1_begins_2_23 rfl rfl rfl ?_
    refine z_getN 10 0 (q := 27) (v := .ref (a0 + 1)) rfl (z_lt rfl) (z_L10_T g_1) (z_nwm q484 rfl) dX1_begins_2_24 rfl (z_fvR (fun _ _ _ => rfl) (z_L10_P0 g_1)) ?_
    refine z_iload_n (q := 28) (i := 2) (x := x2) dX1_begins_2_27 rfl rfl rfl ?_
    obtain ⟨g_2, hf⟩ := hf
    refine z_iald (q := 29) (n := 24) (z_L10_A0 g_1) g_2 dX1_begins_2_28 rfl ?_
    refine z_aload_n (q := 30) (i := 1) (x := a1) dX1_begins_2_29 rfl rfl rfl ?_
    obtain ⟨g_3, hf⟩ := hf
    refine z_getN 10 0 (q := 33) (v := .ref (a1 + 1)) rfl (z_lt rfl) (z_L10_T g_3) (z_nwm q484 rfl) dX1_begins_2_30 rfl (z_fvR (fun _ _ _ => rfl) (z_L10_P0 g_3)) ?_
    refine z_iload_n (q := 34) (i := 2) (x := x2) dX1_begins_2_33 rfl rfl rfl ?_
    obtain ⟨g_4, hf⟩ := hf
    refine z_iald (q := 35) (n := 24) (z_L10_A0 g_3) g_4 dX1_begins_2_34 rfl ?_
    refine z_icmp_eq (q := 38) (tgt := 40) dX1_begins_2_35 rfl rfl (fun hc => ?_) (fun hc => ?_)
    · have hf := hf.1 hc
      refine z_iinc (q := 43) (i := 2) (x := x2) (v := (x2 + 1)) (ls2 := [some (.ref a0), some (.ref a1), some (.int (x2 + 1))]) dX1_begins_2_40 rfl rfl (z_lt rfl) rfl rfl ?_
      refine z_goto (q := 15) dX1_begins_2_43 rfl ?_
      exact hf
    · have hf := hf.2 hc
      refine z_iconst (q := 39) (v := 0) dX1_begins_2_38 rfl rfl ?_
      exact z_zret dX1_begins_2_39 rfl (z_nb01 z_b0) hf

theorem u_X1_bet {l : Launch} {G : z_G} {a0 : Nat} {x1 : Int32} {x2 : Int32} {h : z_H} {Q : z_Q} (hst : l.stackTraces = false)  (hf : z_Ct l G m_X1_isSide [.int x1] h (z_Qi (fun x_1 h_2 => (x_1 = 0 → Q (some (.int (-1))) h_2) ∧ (¬ x_1 = 0 → z_L0 h_2 a0 ∧ z_Ct l G m_X1_in [.int x2, .int 1, .int (h_2.I (a0 + 23) 23)] h_2 (z_Qi (fun x_4 h_5 => (x_4 = 0 → Q (some (.int (-1))) h_5) ∧ (¬ x_4 = 0 → z_L0 h_5 a0 ∧ (0 ≤ (h_5.I (a0 + 23) 12) → Q (some (.int (-1))) h_5) ∧ (¬ 0 ≤ (h_5.I (a0 + 23) 12) → z_Ct l G m_J2_size [.ref (a0 + 32)] h_5 (z_Qi (fun x_7 h_8 => (x_7 = 8 → Q (some (.int (-1))) h_8) ∧ (¬ x_7 = 8 → z_L0 h_8 a0 ∧ z_Ct l G m_X1_keeps [.ref a0] h_8 (z_Qv (fun h_10 => z_L0 h_10 a0 ∧ z_L0 (h_10.nw (29, 0)) a0 ∧ z_Ct l G m_X1_offer [.ref a0] (h_10.nw (29, 0)) (z_Qi (fun x_13 h_14 => z_Ct l G m_X22_init [.ref (h_10.n), .int x1, .int x2, .int x_13] h_14 (z_Qv (fun h_15 => (h_15.T (a0 + 32)).1 = 31 ∧ z_Ct l G m_J2_add [.ref (a0 + 32), .ref (h_10.n)] h_15 (z_Qi (fun x_17 h_18 => z_L0 h_18 a0 ∧ Q (some (.int ((h_18.I (a0 + 23) 23) - x2))) (h_18.sI (a0 + 23) 23 ((h_18.I (a0 + 23) 23) - x2))))))))))))))))))))) : z_Ct l G m_X1_bet [.ref a0, .int x1, .int x2] h Q := by
  refine z_Ct.of (ls := [some (.ref a0), some (.int x1), some (.int x2)]) hst rfl (by decide +kernel) (z_le rfl) rfl ?_
  show z_V l G m_X1_bet (z_Fm G m_X1_bet Q) 63 3525 h 0 [some (.ref a0), some (.int x1), some (.int x2)] []
  refine z_iload_n (q := 1) (i := 1) (x := x1) dX1_bet_0 rfl rfl rfl ?_
  refine z_cSi m_X1_isSide [.int x1] (q := 4) (rc2 := 63) (rs2 := 3525) (st := []) dX1_bet_1 rfl q1274 oS_X1_isSide rfl rfl ⟨z_le rfl, z_le rfl⟩ (z_le rfl) rfl  rfl hf (fun x_1 h_2 hf => ?_)
  refine z_if_eq (q := 7) (tgt := 47) dX1_bet_4 rfl rfl (fun hc => ?_) (fun hc => ?_)
  · have hf := hf.1 hc
    refine z_iconst (q := 48) (v := (-1)) dX1_bet_47 rfl rfl ?_
    exact z_iret dX1_bet_48 rfl hf
  · have hf := hf.2 hc
    refine z_iload_n (q := 8) (i := 2) (x := x2) dX1_bet_7 rfl rfl rfl ?_
    refine z_iconst (q := 9) (v := 1) dX1_bet_8 rfl rfl ?_
    refine z_aload_n (q := 10) (i := 0) (x := a0) dX1_bet_9 rfl rfl rfl ?_
    obtain ⟨g_3, hf⟩ := hf
    refine z_get 0 6 (q := 13) (v := .ref (a0 + 23)) rfl (z_lt rfl) (z_L0_T g_3) q512 dX1_bet_10 rfl (z_fvR (fun _ _ _ => rfl) (z_L0_P6 g_3)) ?_
    refine z_getN 9 23 (q := 16) (v := .int (h_2.I (a0 + 23) 23)) rfl (z_lt rfl) (z_L9_T (z_L0_N6 g_3)) (z_nwm q426 rfl) dX1_bet_13 rfl rfl ?_
    refine z_cSi m_X1_in [.int x2, .int 1, .int (h_2.I (a0 + 23) 23)] (q := 19) (rc2 := 63) (rs2 := 3525) (st := []) dX1_bet_16 rfl q1259 oS_X1_in rfl rfl ⟨z_le rfl, z_le rfl⟩ (z_le rfl) rfl  rfl hf (fun x_4 h_5 hf => ?_)
    refine z_if_eq (q := 22) (tgt := 47) dX1_bet_19 rfl rfl (fun hc => ?_) (fun hc => ?_)
    · have hf := hf.1 hc
      refine z_iconst (q := 48) (v := (-1)) dX1_bet_47 rfl rfl ?_
      exact z_iret dX1_bet_48 rfl hf
    · have hf := hf.2 hc
      refine z_aload_n (q := 23) (i := 0) (x := a0) dX1_bet_22 rfl rfl rfl ?_
      obtain ⟨g_6, hf⟩ := hf
      refine z_get 0 6 (q := 26) (v := .ref (a0 + 23)) rfl (z_lt rfl) (z_L0_T g_6) q512 dX1_bet_23 rfl (z_fvR (fun _ _ _ => rfl) (z_L0_P6 g_6)) ?_
      refine z_getN 9 12 (q := 29) (v := .int (h_5.I (a0 + 23) 12)) rfl (z_lt rfl) (z_L9_T (z_L0_N6 g_6)) (z_nwm q402 rfl) dX1_bet_26 rfl rfl ?_
      refine z_if_ge (q := 32) (tgt := 47) dX1_bet_29 rfl rfl (fun hc => ?_) (fun hc => ?_)
      · have hf := hf.1 hc
        refine z_iconst (q := 48) (v := (-1)) dX1_bet_47 rfl rfl ?_
        exact z_iret dX1_bet_48 rfl hf
      · have hf := hf.2 hc
        refine z_aload_n (q := 33) (i := 0) (x := a0) dX1_bet_32 rfl rfl rfl ?_
        refine z_get 0 6 (q := 36) (v := .ref (a0 + 23)) rfl (z_lt rfl) (z_L0_T g_6) q512 dX1_bet_33 rfl (z_fvR (fun _ _ _ => rfl) (z_L0_P6 g_6)) ?_
        refine z_getN 9 18 (q := 39) (v := .ref (a0 + 32)) rfl (z_lt rfl) (z_L9_T (z_L0_N6 g_6)) (z_nwm q416 rfl) dX1_bet_36 rfl (z_fvR (fun _ _ _ => rfl) (z_L9_P18 (z_L0_N6 g_6))) ?_
        refine z_cVi m_J2_size [] ((a0 + 32)) (q := 42) (rc2 := 63) (rs2 := 3525) (st := []) dX1_bet_39 rfl q1258 oV_J2_size rfl rfl ⟨z_le rfl, z_le rfl⟩ (z_le rfl) (z_rcv_of 21 rfl (z_L9_N18 (z_L0_N6 g_6)) rfl) rfl  rfl hf (fun x_7 h_8 hf => ?_)
        refine z_bipush (q := 44) (v := 8) dX1_bet_42 (by decide) rfl ?_
        refine z_icmp_ne (q := 47) (tgt := 49) dX1_bet_44 rfl rfl (fun hc => ?_) (fun hc => ?_)
        · have hf := hf.2 hc
          refine z_aload_n (q := 50) (i := 0) (x := a0) dX1_bet_49 rfl rfl rfl ?_
          obtain ⟨g_9, hf⟩ := hf
          refine z_cVv m_X1_keeps [] (a0) (q := 53) (rc2 := 2) (rs2 := 67) (st := []) dX1_bet_50 rfl q1291 oV_X1_keeps rfl rfl ⟨z_le rfl, z_le rfl⟩ (z_le rfl) (z_rcv_of 0 rfl (z_L0_T g_9) rfl) rfl  rfl hf (fun h_10 hf => ?_)
          refine z_aload_n (q := 54) (i := 0) (x := a0) dX1_bet_53 rfl rfl rfl ?_
          obtain ⟨g_11, hf⟩ := hf
          refine z_get 0 6 (q := 57) (v := .ref (a0 + 23)) rfl (z_lt rfl) (z_L0_T g_11) q512 dX1_bet_54 rfl (z_fvR (fun _ _ _ => rfl) (z_L0_P6 g_11)) ?_
          refine z_getN 9 18 (q := 60) (v := .ref (a0 + 32)) rfl (z_lt rfl) (z_L9_T (z_L0_N6 g_11)) (z_nwm q416 rfl) dX1_bet_57 rfl (z_fvR (fun _ _ _ => rfl) (z_L9_P18 (z_L0_N6 g_11))) ?_
          refine z_new 19 (q := 63) (rc2 := 1) (rs2 := 64) rfl q1395 q1554 q161 dX1_bet_60 rfl rfl rfl ?_
          refine z_dup (q := 64) dX1_bet_63 rfl rfl ?_
          refine z_iload_n (q := 65) (i := 1) (x := x1) dX1_bet_64 rfl rfl rfl ?_
          refine z_iload_n (q := 66) (i := 2) (x := x2) dX1_bet_65 rfl rfl rfl ?_
          refine z_aload_n (q := 67) (i := 0) (x := a0) dX1_bet_66 rfl rfl rfl ?_
          obtain ⟨g_12, hf⟩ := hf
          refine z_cVi m_X1_offer [] (a0) (q := 70) (rc2 := 1) (rs2 := 64) (st := [.int x2, .int x1, .ref (h_10.n), .ref (h_10.n), .ref (a0 + 32)]) dX1_bet_67 rfl q1555 oV_X1_offer rfl rfl ⟨z_le rfl, z_le rfl⟩ (z_le rfl) (z_rcv_of 0 rfl (z_L0_T g_12) rfl) rfl  rfl hf (fun x_13 h_14 hf => ?_)
          refine z_cIv m_X22_init [.int x1, .int x2, .int x_13] ((h_10.n)) (q := 73) (rc2 := 1) (rs2 := 64) (st := [.ref (h_10.n), .ref (a0 + 32)]) dX1_bet_70 rfl q1556 oI_X22_init rfl rfl ⟨z_le rfl, z_le rfl⟩ (z_le rfl) rfl  rfl hf (fun h_15 hf => ?_)
          obtain ⟨g_16, hf⟩ := hf
          refine z_cVi m_J2_add [.ref (h_10.n)] ((a0 + 32)) (q := 76) (rc2 := 0) (rs2 := 0) (st := []) dX1_bet_73 rfl q1363 oV_J2_add rfl rfl ⟨z_le rfl, z_le rfl⟩ (z_le rfl) (z_rcv_of 21 rfl g_16 rfl) rfl  rfl hf (fun x_17 h_18 hf => ?_)
          refine z_pop (q := 77) dX1_bet_76 rfl rfl ?_
          refine z_aload_n (q := 78) (i := 0) (x := a0) dX1_bet_77 rfl rfl rfl ?_
          obtain ⟨g_19, hf⟩ := hf
          refine z_get 0 6 (q := 81) (v := .ref (a0 + 23)) rfl (z_lt rfl) (z_L0_T g_19) q512 dX1_bet_78 rfl (z_fvR (fun _ _ _ => rfl) (z_L0_P6 g_19)) ?_
          refine z_dup (q := 82) dX1_bet_81 rfl rfl ?_
          refine z_getN 9 23 (q := 85) (v := .int (h_18.I (a0 + 23) 23)) rfl (z_lt rfl) (z_L9_T (z_L0_N6 g_19)) (z_nwm q426 rfl) dX1_bet_82 rfl rfl ?_
          refine z_iload_n (q := 86) (i := 2) (x := x2) dX1_bet_85 rfl rfl rfl ?_
          refine z_isub (q := 87) dX1_bet_86 rfl ?_
          refine z_putIN 9 23 (q := 90) (x := ((h_18.I (a0 + 23) 23) - x2)) (v := .int ((h_18.I (a0 + 23) 23) - x2)) rfl (z_lt rfl) (z_L9_T (z_L0_N6 g_19)) (z_nwm q426 rfl) rfl dX1_bet_87 rfl rfl rfl rfl (fun _ _ _ => rfl) ?_
          refine z_aload_n (q := 91) (i := 0) (x := a0) dX1_bet_90 rfl rfl rfl ?_
          refine z_get 0 6 (q := 94) (v := .ref (a0 + 23)) rfl (z_lt rfl) (z_L0_T g_19) q512 dX1_bet_91 rfl (z_fvR (fun _ _ _ => rfl) (z_L0_P6 g_19)) ?_
          refine z_getN 9 23 (q := 97) (v := .int ((h_18.I (a0 + 23) 23) - x2)) rfl (z_lt rfl) (z_L9_T (z_L0_N6 g_19)) (z_nwm q426 rfl) dX1_bet_94 rfl (congrArg Value.int z_rIs) ?_
          exact z_iret dX1_bet_97 rfl hf
        · have hf := hf.1 hc
          refine z_iconst (q := 48) (v := (-1)) dX1_bet_47 rfl rfl ?_
          exact z_iret dX1_bet_48 rfl hf

theorem u_X1_book {l : Launch} {G : z_G} {mc ms : Nat} {a0 : Nat} {h : z_H} {Q : z_Q} (hst : l.stackTraces = false)  (hf : z_L0 h a0 ∧ z_Ct l G m_X1_reads [.ref a0] h (z_Qv (fun h_2 => z_L0 h_2 a0 ∧ ∃ b_4, (h_2.P a0 4) = some b_4 ∧ ∃ mc_6, ∃ ms_7, ∃ rc_8, mc = rc_8 + mc_6 ∧ ∃ rs_10, ms = rs_10 + ms_7 ∧ z_Cz l G (m_X2_book mc_6 ms_7) [.ref (a0 + 2), .ref b_4] h_2 (z_Qr (fun b_12 h_13 => z_L0 h_13 a0 ∧ Q (some (.int 0)) (h_13.sP a0 5 (some b_12)))) (fun C0 b_15 h_16 => C0 = "BeggarHeaps$Wrong" ∧ (h_16.T b_15).1 = 22 ∧ Q (some (.int (h_16.I b_15 6))) h_16)))) : z_Ct l G (m_X1_book mc ms) [.ref a0] h Q := by
  refine z_Ct.of (ls := [some (.ref a0), none]) hst rfl (by decide +kernel) (z_le rfl) rfl ?_
  show z_V l G (m_X1_book mc ms) (z_Fm G (m_X1_book mc ms) Q) mc ms h 0 [some (.ref a0), none] []
  refine z_aload_n (q := 1) (i := 0) (x := a0) dX1_book_0 rfl rfl rfl ?_
  obtain ⟨g_1, hf⟩ := hf
  refine z_cVv m_X1_reads [] (a0) (q := 4) (rc2 := mc) (rs2 := ms) (st := []) dX1_book_1 rfl q585 oV_X1_reads rfl rfl ⟨z_le rfl, z_le rfl⟩ (z_le rfl) (z_rcv_of 0 rfl (z_L0_T g_1) rfl) rfl  rfl hf (fun h_2 hf => ?_)
  refine z_aload_n (q := 5) (i := 0) (x := a0) dX1_book_4 rfl rfl rfl ?_
  refine z_aload_n (q := 6) (i := 0) (x := a0) dX1_book_5 rfl rfl rfl ?_
  obtain ⟨g_3, hf⟩ := hf
  refine z_get 0 1 (q := 9) (v := .ref (a0 + 2)) rfl (z_lt rfl) (z_L0_T g_3) q505 dX1_book_6 rfl (z_fvR (fun _ _ _ => rfl) (z_L0_P1 g_3)) ?_
  refine z_aload_n (q := 10) (i := 0) (x := a0) dX1_book_9 rfl rfl rfl ?_
  obtain ⟨b_4, g_5, hf⟩ := hf
  refine z_get 0 4 (q := 13) (v := .ref b_4) rfl (z_lt rfl) (z_L0_T g_3) q510 dX1_book_10 rfl (z_fvR (fun _ _ _ => rfl) g_5) ?_
  obtain ⟨mc_6, hf⟩ := hf
  obtain ⟨ms_7, hf⟩ := hf
  obtain ⟨rc_8, g_9, hf⟩ := hf
  obtain ⟨rs_10, g_11, hf⟩ := hf
  refine z_cXr (m_X2_book mc_6 ms_7) [.ref b_4] ((a0 + 2)) (q := 16) (rc2 := rc_8) (rs2 := rs_10) (st := [.ref a0]) dX1_book_13 rfl q1211 oV_X2_book rfl rfl ⟨z_le rfl, z_le rfl⟩ (z_le rfl) (z_rcv_of 1 rfl (z_L0_N1 g_3) rfl) g_9  g_11 hf (fun C0 b_15 h_16 hX => ?_) (fun b_12 h_13 hf => ?_)
  · obtain ⟨rfl, hf⟩ := hX
    refine z_catch (name := "BeggarHeaps$Wrong") rfl (z_le rfl) (z_lt rfl) (by decide) q584 (Or.inl rfl) (z_nwm q733 rfl) ?_
    refine z_astore_n (q := 23) (i := 1) (ls2 := [some (.ref a0), some (.ref b_15)]) (x := b_15) dX1_book_22 rfl (z_lt rfl) rfl rfl ?_
    refine z_aload_n (q := 24) (i := 1) (x := b_15) dX1_book_23 rfl rfl rfl ?_
    obtain ⟨g_17, hf⟩ := hf
    refine z_getN 12 6 (q := 27) (v := .int (h_16.I b_15 6)) rfl (z_lt rfl) g_17 (z_nwm q784 rfl) dX1_book_24 rfl rfl ?_
    exact z_iret dX1_book_27 rfl hf
  · skip
    obtain ⟨g_14, hf⟩ := hf
    refine z_putP 0 5 (q := 19) (x := some b_12) (v := .ref b_12) rfl (z_lt rfl) (z_L0_T g_14) q511 rfl dX1_book_16 rfl rfl rfl rfl (fun _ _ _ => rfl) ?_
    refine z_goto (q := 28) dX1_book_19 rfl ?_
    refine z_iconst (q := 29) (v := 0) dX1_book_28 rfl rfl ?_
    exact z_iret dX1_book_29 rfl hf

theorem u_X1_both {l : Launch} {G : z_G} {mc ms : Nat} {a0 : Nat} {x1 : Int32} {h : z_H} {Q : z_Q} (hst : l.stackTraces = false)  (hf : z_Ct l G m_X1_in [.int x1, .int 1, .int 4] h (z_Qi (fun x_1 h_2 => (x_1 = 0 → Q (some (.int (-1))) h_2) ∧ (¬ x_1 = 0 → z_L0 h_2 a0 ∧ ((h_2.I (a0 + 23) 16) = 0 → ∃ mc_5, ∃ ms_6, ∃ rc_7, mc = rc_7 + mc_5 ∧ ∃ rs_9, ms = rs_9 + ms_6 ∧ z_Ct l G (m_X1_must 5 mc_5 ms_6) [.ref a0, .ref (a0 + 23), .int x1] h_2 (z_Qi (fun x_11 h_12 => Q (some (.int (if x_11 = 0 then 0 else 1))) h_12))) ∧ (¬ (h_2.I (a0 + 23) 16) = 0 → Q (some (.int (-1))) h_2))))) : z_Ct l G (m_X1_both mc ms) [.ref a0, .int x1] h Q := by
  refine z_Ct.of (ls := [some (.ref a0), some (.int x1)]) hst rfl (by decide +kernel) (z_le rfl) rfl ?_
  show z_V l G (m_X1_both mc ms) (z_Fm G (m_X1_both mc ms) Q) mc ms h 0 [some (.ref a0), some (.int x1)] []
  refine z_iload_n (q := 1) (i := 1) (x := x1) dX1_both_0 rfl rfl rfl ?_
  refine z_iconst (q := 2) (v := 1) dX1_both_1 rfl rfl ?_
  refine z_iconst (q := 3) (v := 4) dX1_both_2 rfl rfl ?_
  refine z_cSi m_X1_in [.int x1, .int 1, .int 4] (q := 6) (rc2 := mc) (rs2 := ms) (st := []) dX1_both_3 rfl q1259 oS_X1_in rfl rfl ⟨z_le rfl, z_le rfl⟩ (z_le rfl) rfl  rfl hf (fun x_1 h_2 hf => ?_)
  refine z_if_eq (q := 9) (tgt := 19) dX1_both_6 rfl rfl (fun hc => ?_) (fun hc => ?_)
  · have hf := hf.1 hc
    refine z_iconst (q := 20) (v := (-1)) dX1_both_19 rfl rfl ?_
    refine z_goto (q := 40) dX1_both_20 rfl ?_
    exact z_iret dX1_both_40 rfl hf
  · have hf := hf.2 hc
    refine z_aload_n (q := 10) (i := 0) (x := a0) dX1_both_9 rfl rfl rfl ?_
    obtain ⟨g_4, hf⟩ := hf
    refine z_get 0 6 (q := 13) (v := .ref (a0 + 23)) rfl (z_lt rfl) (z_L0_T g_4) q512 dX1_both_10 rfl (z_fvR (fun _ _ _ => rfl) (z_L0_P6 g_4)) ?_
    refine z_getN 9 16 (q := 16) (v := .int (h_2.I (a0 + 23) 16)) rfl (z_lt rfl) (z_L9_T (z_L0_N6 g_4)) (z_nwm q412 rfl) dX1_both_13 rfl rfl ?_
    refine z_if_eq (q := 19) (tgt := 23) dX1_both_16 rfl rfl (fun hc => ?_) (fun hc => ?_)
    · have hf := hf.1 hc
      refine z_aload_n (q := 24) (i := 0) (x := a0) dX1_both_23 rfl rfl rfl ?_
      refine z_aload_n (q := 25) (i := 0) (x := a0) dX1_both_24 rfl rfl rfl ?_
      refine z_get 0 6 (q := 28) (v := .ref (a0 + 23)) rfl (z_lt rfl) (z_L0_T g_4) q512 dX1_both_25 rfl (z_fvR (fun _ _ _ => rfl) (z_L0_P6 g_4)) ?_
      refine z_iload_n (q := 29) (i := 1) (x := x1) dX1_both_28 rfl rfl rfl ?_
      obtain ⟨mc_5, hf⟩ := hf
      obtain ⟨ms_6, hf⟩ := hf
      obtain ⟨rc_7, g_8, hf⟩ := hf
      obtain ⟨rs_9, g_10, hf⟩ := hf
      refine z_cVi (m_X1_must 5 mc_5 ms_6) [.ref (a0 + 23), .int x1] (a0) (q := 32) (rc2 := rc_7) (rs2 := rs_9) (st := []) dX1_both_29 rfl q1597 oV_X1_must rfl rfl (z_room_of (by first | exact z_le rfl | (simp only [z_M.d, z_M.nL, z_M.lo, m_X1_must, m_X1_both]; omega)) (by first | exact z_le rfl | (simp only [z_M.d, z_M.nL, z_M.lo, m_X1_must, m_X1_both]; omega))) (z_le rfl) (z_rcv_of 0 rfl (z_L0_T g_4) rfl) g_8  g_10 hf (fun x_11 h_12 hf => ?_)
      have hk : z_V l G (m_X1_both mc ms) (z_Fm G (m_X1_both mc ms) Q) rc_7 rs_9 h_12 40 [some (.ref a0), some (.int x1)] [.int (if x_11 = 0 then 0 else 1)] := by
        exact z_iret dX1_both_40 rfl hf
      refine z_if_eq (q := 35) (tgt := 39) dX1_both_32 rfl rfl (fun hc => ?_) (fun hc => ?_)
      · have hk := (z_ite hk).1 hc
        refine z_iconst (q := 40) (v := 0) dX1_both_39 rfl rfl ?_
        exact hk
      · have hk := (z_ite hk).2 hc
        refine z_iconst (q := 36) (v := 1) dX1_both_35 rfl rfl ?_
        refine z_goto (q := 40) dX1_both_36 rfl ?_
        exact hk
    · have hf := hf.2 hc
      refine z_iconst (q := 20) (v := (-1)) dX1_both_19 rfl rfl ?_
      refine z_goto (q := 40) dX1_both_20 rfl ?_
      exact z_iret dX1_both_40 rfl hf

theorem u_X1_canWin {l : Launch} {G : z_G} {d : Nat} {mc ms : Nat} {a0 : Nat} {a1 : Nat} {x2 : Int32} {x3 : Int32} {h : z_H} {Q : z_Q} (hst : l.stackTraces = false)  (hf : ∃ mc_1, ∃ ms_2, ∃ rc_3, mc = rc_3 + mc_1 ∧ ∃ rs_5, ms = rs_5 + ms_2 ∧ z_L0 h a0 ∧ z_Ct l G (m_X1_tried mc_1 ms_2) [.ref a0, .int (2 * x2), .ref a1] h (z_Qr (fun b_8 h_9 => z_L0 h_9 a0 ∧ z_Ct l G m_X1_goesToHeap [.ref a0, .ref b_8] h_9 (z_Qi (fun x_11 h_12 => (x_11 = 0 → z_L0 h_12 a0 ∧ z_L9 h_12 b_8 ∧ Q (some (.int (if ((h_12.sI a0 20 x3).I b_8 12) = 0 then 1 else 0))) (h_12.sI a0 20 x3)) ∧ (¬ x_11 = 0 → (x2 = 0 → Q (some (.int 0)) h_12) ∧ (¬ x2 = 0 → z_L9 h_12 b_8 ∧ ((h_12.I b_8 10) = 1 → z_L0 h_12 a0 ∧ ∃ b_15, (h_12.P a0 4) = some b_15 ∧ z_L8 h_12 b_15 ∧ ∃ b_18, (h_12.P a0 4) = some b_18 ∧ z_L8 h_12 b_18 ∧ z_Ct l G m_X10_order [.ref b_18] h_12 (z_Qi (fun x_21 h_22 => ∃ n_23, h_22.T (a0 + 3) = (6, n_23) ∧ vp_in x_21 n_23 ∧ ∃ b_26, (h_22.P (a0 + 3) (Int32.toNatClampNeg x_21)) = some b_26 ∧ z_L9 h_22 b_8 ∧ z_Ct l G m_X11_takes [.ref b_8, .ref (b_15 + 3), .ref b_26] h_22 (z_Qv (fun h_29 => ∃ mc_30, ∃ ms_31, ∃ rc_32, rc_3 = rc_32 + mc_30 ∧ ∃ rs_34, rs_5 = rs_34 + ms_31 ∧ z_L0 h_29 a0 ∧ z_Ct l G (m_X1_canWin d mc_30 ms_31) [.ref a0, .ref b_8, .int (x2 - 1), .int x3] h_29 (z_Qi (fun x_37 h_38 => (x_37 = 0 ∨ x_37 = 1) ∧ Q (some (.int x_37)) h_38))))))) ∧ (¬ (h_12.I b_8 10) = 1 → z_V l G (m_X1_canWin (d + 1) mc ms) (z_Fm G (m_X1_canWin (d + 1) mc ms) Q) rc_3 rs_5 h_12 91 [some (.ref a0), none, some (.int x2), some (.int x3), some (.ref b_8), some (.int 0), none] [])))))))) : z_Ct l G (m_X1_canWin (d + 1) mc ms) [.ref a0, .ref a1, .int x2, .int x3] h Q := by
  refine z_Ct.of (ls := [some (.ref a0), some (.ref a1), some (.int x2), some (.int x3), none, none, none]) hst rfl (by decide +kernel) (z_le rfl) rfl ?_
  show z_V l G (m_X1_canWin (d + 1) mc ms) (z_Fm G (m_X1_canWin (d + 1) mc ms) Q) mc ms h 0 [some (.ref a0), some (.ref a1), some (.int x2), some (.int x3), none, none, none] []
  refine z_aload_n (q := 1) (i := 0) (x := a0) dX1_canWin_0 rfl rfl rfl ?_
  refine z_iconst (q := 2) (v := 2) dX1_canWin_1 rfl rfl ?_
  refine z_iload_n (q := 3) (i := 2) (x := x2) dX1_canWin_2 rfl rfl rfl ?_
  refine z_imul (q := 4) dX1_canWin_3 rfl ?_
  refine z_aload_n (q := 5) (i := 1) (x := a1) dX1_canWin_4 rfl rfl rfl ?_
  obtain ⟨mc_1, hf⟩ := hf
  obtain ⟨ms_2, hf⟩ := hf
  obtain ⟨rc_3, g_4, hf⟩ := hf
  obtain ⟨rs_5, g_6, hf⟩ := hf
  obtain ⟨g_7, hf⟩ := hf
  refine z_cVr (m_X1_tried mc_1 ms_2) [.int (2 * x2), .ref a1] (a0) (q := 8) (rc2 := rc_3) (rs2 := rs_5) (st := []) dX1_canWin_5 rfl q1585 oV_X1_tried rfl rfl (z_room_of (by first | exact z_le rfl | (simp only [z_M.d, z_M.nL, z_M.lo, m_X1_tried, m_X1_canWin]; omega)) (by first | exact z_le rfl | (simp only [z_M.d, z_M.nL, z_M.lo, m_X1_tried, m_X1_canWin]; omega))) (z_le rfl) (z_rcv_of 0 rfl (z_L0_T g_7) rfl) g_4  g_6 hf (fun b_8 h_9 hf => ?_)
  refine z_astore (q := 10) (i := 4) (ls2 := [some (.ref a0), some (.ref a1), some (.int x2), some (.int x3), some (.ref b_8), none, none]) (x := b_8) dX1_canWin_8 (z_lt rfl) rfl rfl ?_
  refine z_aload_n (q := 11) (i := 0) (x := a0) dX1_canWin_10 rfl rfl rfl ?_
  refine z_aload (q := 13) (i := 4) (x := b_8) dX1_canWin_11 rfl rfl ?_
  obtain ⟨g_10, hf⟩ := hf
  refine z_cVi m_X1_goesToHeap [.ref b_8] (a0) (q := 16) (rc2 := rc_3) (rs2 := rs_5) (st := []) dX1_canWin_13 rfl q1589 oV_X1_goesToHeap rfl rfl (z_room_of (by first | exact z_le rfl | (simp only [z_M.d, z_M.nL, z_M.lo, m_X1_goesToHeap, m_X1_canWin]; omega)) (by first | exact z_le rfl | (simp only [z_M.d, z_M.nL, z_M.lo, m_X1_goesToHeap, m_X1_canWin]; omega))) (z_le rfl) (z_rcv_of 0 rfl (z_L0_T g_10) rfl) rfl  rfl hf (fun x_11 h_12 hf => ?_)
  refine z_if_ne (q := 19) (tgt := 38) dX1_canWin_16 rfl rfl (fun hc => ?_) (fun hc => ?_)
  · have hf := hf.2 hc
    refine z_iload_n (q := 39) (i := 2) (x := x2) dX1_canWin_38 rfl rfl rfl ?_
    refine z_if_ne (q := 42) (tgt := 44) dX1_canWin_39 rfl rfl (fun hc => ?_) (fun hc => ?_)
    · have hf := hf.2 hc
      refine z_aload (q := 46) (i := 4) (x := b_8) dX1_canWin_44 rfl rfl ?_
      obtain ⟨g_13, hf⟩ := hf
      refine z_getN 9 10 (q := 49) (v := .int (h_12.I b_8 10)) rfl (z_lt rfl) (z_L9_T g_13) (z_nwm q396 rfl) dX1_canWin_46 rfl rfl ?_
      refine z_iconst (q := 50) (v := 1) dX1_canWin_49 rfl rfl ?_
      refine z_icmp_ne (q := 53) (tgt := 88) dX1_canWin_50 rfl rfl (fun hc => ?_) (fun hc => ?_)
      · have hf := hf.2 hc
        refine z_iconst (q := 89) (v := 0) dX1_canWin_88 rfl rfl ?_
        refine z_istore (q := 91) (i := 5) (ls2 := [some (.ref a0), some (.ref a1), some (.int x2), some (.int x3), some (.ref b_8), some (.int 0), none]) (x := 0) dX1_canWin_89 (z_lt rfl) rfl rfl ?_
        refine z_prune [true, false, true, true, true, true, false] (ls2 := [some (.ref a0), none, some (.int x2), some (.int x3), some (.ref b_8), some (.int 0), none]) rfl ?_
        exact hf
      · have hf := hf.1 hc
        refine z_aload (q := 55) (i := 4) (x := b_8) dX1_canWin_53 rfl rfl ?_
        refine z_aload_n (q := 56) (i := 0) (x := a0) dX1_canWin_55 rfl rfl rfl ?_
        obtain ⟨g_14, hf⟩ := hf
        obtain ⟨b_15, g_16, hf⟩ := hf
        refine z_get 0 4 (q := 59) (v := .ref b_15) rfl (z_lt rfl) (z_L0_T g_14) q510 dX1_canWin_56 rfl (z_fvR (fun _ _ _ => rfl) g_16) ?_
        obtain ⟨g_17, hf⟩ := hf
        refine z_getN 8 1 (q := 62) (v := .ref (b_15 + 3)) rfl (z_lt rfl) (z_L8_T g_17) (z_nwm q334 rfl) dX1_canWin_59 rfl (z_fvR (fun _ _ _ => rfl) (z_L8_P1 g_17)) ?_
        refine z_aload_n (q := 63) (i := 0) (x := a0) dX1_canWin_62 rfl rfl rfl ?_
        refine z_get 0 2 (q := 66) (v := .ref (a0 + 3)) rfl (z_lt rfl) (z_L0_T g_14) q507 dX1_canWin_63 rfl (z_fvR (fun _ _ _ => rfl) (z_L0_P2 g_14)) ?_
        refine z_aload_n (q := 67) (i := 0) (x := a0) dX1_canWin_66 rfl rfl rfl ?_
        obtain ⟨b_18, g_19, hf⟩ := hf
        refine z_get 0 4 (q := 70) (v := .ref b_18) rfl (z_lt rfl) (z_L0_T g_14) q510 dX1_canWin_67 rfl (z_fvR (fun _ _ _ => rfl) g_19) ?_
        obtain ⟨g_20, hf⟩ := hf
        refine z_cVi m_X10_order [] (b_18) (q := 73) (rc2 := rc_3) (rs2 := rs_5) (st := [.ref (a0 + 3), .ref (b_15 + 3), .ref b_8]) dX1_canWin_70 rfl q1364 oV_X10_order rfl rfl (z_room_of (by first | exact z_le rfl | (simp only [z_M.d, z_M.nL, z_M.lo, m_X10_order, m_X1_canWin]; omega)) (by first | exact z_le rfl | (simp only [z_M.d, z_M.nL, z_M.lo, m_X10_order, m_X1_canWin]; omega))) (z_le rfl) (z_rcv_of 8 rfl (z_L8_T g_20) rfl) rfl  rfl hf (fun x_21 h_22 hf => ?_)
        obtain ⟨n_23, g_24, hf⟩ := hf
        obtain ⟨g_25, hf⟩ := hf
        obtain ⟨b_26, g_27, hf⟩ := hf
        refine z_aald (q := 74) (n := n_23) (v := .ref b_26) g_24 (by decide) g_25 dX1_canWin_73 rfl (z_rfR g_27) ?_
        obtain ⟨g_28, hf⟩ := hf
        refine z_cVv m_X11_takes [.ref (b_15 + 3), .ref b_26] (b_8) (q := 77) (rc2 := rc_3) (rs2 := rs_5) (st := []) dX1_canWin_74 rfl q1368 oV_X11_takes rfl rfl (z_room_of (by first | exact z_le rfl | (simp only [z_M.d, z_M.nL, z_M.lo, m_X11_takes, m_X1_canWin]; omega)) (by first | exact z_le rfl | (simp only [z_M.d, z_M.nL, z_M.lo, m_X11_takes, m_X1_canWin]; omega))) (z_le rfl) (z_rcv_of 9 rfl (z_L9_T g_28) rfl) rfl  rfl hf (fun h_29 hf => ?_)
        refine z_aload_n (q := 78) (i := 0) (x := a0) dX1_canWin_77 rfl rfl rfl ?_
        refine z_aload (q := 80) (i := 4) (x := b_8) dX1_canWin_78 rfl rfl ?_
        refine z_iload_n (q := 81) (i := 2) (x := x2) dX1_canWin_80 rfl rfl rfl ?_
        refine z_iconst (q := 82) (v := 1) dX1_canWin_81 rfl rfl ?_
        refine z_isub (q := 83) dX1_canWin_82 rfl ?_
        refine z_iload_n (q := 84) (i := 3) (x := x3) dX1_canWin_83 rfl rfl rfl ?_
        obtain ⟨mc_30, hf⟩ := hf
        obtain ⟨ms_31, hf⟩ := hf
        obtain ⟨rc_32, g_33, hf⟩ := hf
        obtain ⟨rs_34, g_35, hf⟩ := hf
        obtain ⟨g_36, hf⟩ := hf
        refine z_cVi (m_X1_canWin d mc_30 ms_31) [.ref b_8, .int (x2 - 1), .int x3] (a0) (q := 87) (rc2 := rc_32) (rs2 := rs_34) (st := []) dX1_canWin_84 rfl q1581 oV_X1_canWin rfl rfl (z_room_of (by first | exact z_le rfl | (simp only [z_M.d, z_M.nL, z_M.lo, m_X1_canWin, m_X1_canWin]; omega)) (by first | exact z_le rfl | (simp only [z_M.d, z_M.nL, z_M.lo, m_X1_canWin, m_X1_canWin]; omega))) (z_le rfl) (z_rcv_of 0 rfl (z_L0_T g_36) rfl) g_33  g_35 hf (fun x_37 h_38 hf => ?_)
        obtain ⟨g_39, hf⟩ := hf
        exact z_zret dX1_canWin_87 rfl (z_nb01 g_39) hf
    · have hf := hf.1 hc
      refine z_iconst (q := 43) (v := 0) dX1_canWin_42 rfl rfl ?_
      exact z_zret dX1_canWin_43 rfl (z_nb01 z_b0) hf
  · have hf := hf.1 hc
    refine z_aload_n (q := 20) (i := 0) (x := a0) dX1_canWin_19 rfl rfl rfl ?_
    refine z_iload_n (q := 21) (i := 3) (x := x3) dX1_canWin_20 rfl rfl rfl ?_
    obtain ⟨g_40, hf⟩ := hf
    refine z_putI 0 20 (q := 24) (x := x3) (v := .int x3) rfl (z_lt rfl) (z_L0_T g_40) q526 rfl dX1_canWin_21 rfl rfl rfl rfl (fun _ _ _ => rfl) ?_
    refine z_aload (q := 26) (i := 4) (x := b_8) dX1_canWin_24 rfl rfl ?_
    obtain ⟨g_41, hf⟩ := hf
    refine z_getN 9 12 (q := 29) (v := .int ((h_12.sI a0 20 x3).I b_8 12)) rfl (z_lt rfl) (z_L9_T g_41) (z_nwm q402 rfl) dX1_canWin_26 rfl rfl ?_
    have hk : z_V l G (m_X1_canWin (d + 1) mc ms) (z_Fm G (m_X1_canWin (d + 1) mc ms) Q) rc_3 rs_5 (h_12.sI a0 20 x3) 37 [some (.ref a0), some (.ref a1), some (.int x2), some (.int x3), some (.ref b_8), none, none] [.int (if ((h_12.sI a0 20 x3).I b_8 12) = 0 then 1 else 0)] := by
      exact z_zret dX1_canWin_37 rfl (z_nb01 (z_bif z_b1 z_b0)) hf
    refine z_if_ne (q := 32) (tgt := 36) dX1_canWin_29 rfl rfl (fun hc => ?_) (fun hc => ?_)
    · have hk := (z_ite hk).2 hc
      refine z_iconst (q := 37) (v := 0) dX1_canWin_36 rfl rfl ?_
      exact hk
    · have hk := (z_ite hk).1 hc
      refine z_iconst (q := 33) (v := 1) dX1_canWin_32 rfl rfl ?_
      refine z_goto (q := 37) dX1_canWin_33 rfl ?_
      exact hk

theorem b_X1_canWin_91 {l : Launch} {G : z_G} {d : Nat} {mc ms : Nat} {rc rs : Nat} {a0 : Nat} {x2 : Int32} {x3 : Int32} {a4 : Nat} {x5 : Int32} {h : z_H} {Q : z_Q}  (hf : (5 ≤ x5 → Q (some (.int 0)) h) ∧ (¬ 5 ≤ x5 → ∃ mc_1, ∃ ms_2, ∃ rc_3, rc = rc_3 + mc_1 ∧ ∃ rs_5, rs = rs_5 + ms_2 ∧ z_L0 h a0 ∧ z_Ct l G (m_X1_tried mc_1 ms_2) [.ref a0, .int ((2 * x2) + 1), .ref a4] h (z_Qr (fun b_8 h_9 => z_L0 h_9 a0 ∧ ∃ b_11, (h_9.P a0 4) = some b_11 ∧ z_L8 h_9 b_11 ∧ vp_in x5 5 ∧ ∃ b_15, (h_9.P (a0 + 3) (Int32.toNatClampNeg x5)) = some b_15 ∧ z_L9 h_9 b_8 ∧ z_Ct l G m_X11_takes [.ref b_8, .ref (b_11 + 3), .ref b_15] h_9 (z_Qv (fun h_18 => z_L0 h_18 a0 ∧ vp_in x3 6 ∧ ∃ mc_21, ∃ ms_22, ∃ rc_23, rc_3 = rc_23 + mc_21 ∧ ∃ rs_25, rs_5 = rs_25 + ms_22 ∧ z_Ct l G (m_X1_canWin d mc_21 ms_22) [.ref a0, .ref b_8, .int (x2 - 1), .int (x3 + 1)] (h_18.sI (a0 + 57) (Int32.toNatClampNeg x3) x5) (z_Qi (fun x_27 h_28 => (x_27 = 0 → z_V l G (m_X1_canWin (d + 1) mc ms) (z_Fm G (m_X1_canWin (d + 1) mc ms) Q) rc_23 rs_25 h_28 91 [some (.ref a0), none, some (.int x2), some (.int x3), some (.ref a4), some (.int (x5 + 1)), none] []) ∧ (¬ x_27 = 0 → Q (some (.int 1)) h_28))))))))) : z_V l G (m_X1_canWin (d + 1) mc ms) (z_Fm G (m_X1_canWin (d + 1) mc ms) Q) rc rs h 91 [some (.ref a0), none, some (.int x2), some (.int x3), some (.ref a4), some (.int x5), none] [] := by
  refine z_iload (q := 93) (i := 5) (x := x5) dX1_canWin_91 rfl rfl ?_
  refine z_iconst (q := 94) (v := 5) dX1_canWin_93 rfl rfl ?_
  refine z_icmp_ge (q := 97) (tgt := 160) dX1_canWin_94 rfl rfl (fun hc => ?_) (fun hc => ?_)
  · have hf := hf.1 hc
    refine z_iconst (q := 161) (v := 0) dX1_canWin_160 rfl rfl ?_
    exact z_zret dX1_canWin_161 rfl (z_nb01 z_b0) hf
  · have hf := hf.2 hc
    refine z_aload_n (q := 98) (i := 0) (x := a0) dX1_canWin_97 rfl rfl rfl ?_
    refine z_iconst (q := 99) (v := 2) dX1_canWin_98 rfl rfl ?_
    refine z_iload_n (q := 100) (i := 2) (x := x2) dX1_canWin_99 rfl rfl rfl ?_
    refine z_imul (q := 101) dX1_canWin_100 rfl ?_
    refine z_iconst (q := 102) (v := 1) dX1_canWin_101 rfl rfl ?_
    refine z_iadd (q := 103) dX1_canWin_102 rfl ?_
    refine z_aload (q := 105) (i := 4) (x := a4) dX1_canWin_103 rfl rfl ?_
    obtain ⟨mc_1, hf⟩ := hf
    obtain ⟨ms_2, hf⟩ := hf
    obtain ⟨rc_3, g_4, hf⟩ := hf
    obtain ⟨rs_5, g_6, hf⟩ := hf
    obtain ⟨g_7, hf⟩ := hf
    refine z_cVr (m_X1_tried mc_1 ms_2) [.int ((2 * x2) + 1), .ref a4] (a0) (q := 108) (rc2 := rc_3) (rs2 := rs_5) (st := []) dX1_canWin_105 rfl q1585 oV_X1_tried rfl rfl (z_room_of (by first | exact z_le rfl | (simp only [z_M.d, z_M.nL, z_M.lo, m_X1_tried, m_X1_canWin]; omega)) (by first | exact z_le rfl | (simp only [z_M.d, z_M.nL, z_M.lo, m_X1_tried, m_X1_canWin]; omega))) (z_le rfl) (z_rcv_of 0 rfl (z_L0_T g_7) rfl) g_4  g_6 hf (fun b_8 h_9 hf => ?_)
    refine z_astore (q := 110) (i := 6) (ls2 := [some (.ref a0), none, some (.int x2), some (.int x3), some (.ref a4), some (.int x5), some (.ref b_8)]) (x := b_8) dX1_canWin_108 (z_lt rfl) rfl rfl ?_
    refine z_aload (q := 112) (i := 6) (x := b_8) dX1_canWin_110 rfl rfl ?_
    refine z_aload_n (q := 113) (i := 0) (x := a0) dX1_canWin_112 rfl rfl rfl ?_
    obtain ⟨g_10, hf⟩ := hf
    obtain ⟨b_11, g_12, hf⟩ := hf
    refine z_get 0 4 (q := 116) (v := .ref b_11) rfl (z_lt rfl) (z_L0_T g_10) q510 dX1_canWin_113 rfl (z_fvR (fun _ _ _ => rfl) g_12) ?_
    obtain ⟨g_13, hf⟩ := hf
    refine z_getN 8 1 (q := 119) (v := .ref (b_11 + 3)) rfl (z_lt rfl) (z_L8_T g_13) (z_nwm q334 rfl) dX1_canWin_116 rfl (z_fvR (fun _ _ _ => rfl) (z_L8_P1 g_13)) ?_
    refine z_aload_n (q := 120) (i := 0) (x := a0) dX1_canWin_119 rfl rfl rfl ?_
    refine z_get 0 2 (q := 123) (v := .ref (a0 + 3)) rfl (z_lt rfl) (z_L0_T g_10) q507 dX1_canWin_120 rfl (z_fvR (fun _ _ _ => rfl) (z_L0_P2 g_10)) ?_
    refine z_iload (q := 125) (i := 5) (x := x5) dX1_canWin_123 rfl rfl ?_
    obtain ⟨g_14, hf⟩ := hf
    obtain ⟨b_15, g_16, hf⟩ := hf
    refine z_aald (q := 126) (n := 5) (v := .ref b_15) (z_L0_A2 g_10) (by decide) g_14 dX1_canWin_125 rfl (z_rfR g_16) ?_
    obtain ⟨g_17, hf⟩ := hf
    refine z_cVv m_X11_takes [.ref (b_11 + 3), .ref b_15] (b_8) (q := 129) (rc2 := rc_3) (rs2 := rs_5) (st := []) dX1_canWin_126 rfl q1368 oV_X11_takes rfl rfl (z_room_of (by first | exact z_le rfl | (simp only [z_M.d, z_M.nL, z_M.lo, m_X11_takes, m_X1_canWin]; omega)) (by first | exact z_le rfl | (simp only [z_M.d, z_M.nL, z_M.lo, m_X11_takes, m_X1_canWin]; omega))) (z_le rfl) (z_rcv_of 9 rfl (z_L9_T g_17) rfl) rfl  rfl hf (fun h_18 hf => ?_)
    refine z_aload_n (q := 130) (i := 0) (x := a0) dX1_canWin_129 rfl rfl rfl ?_
    obtain ⟨g_19, hf⟩ := hf
    refine z_get 0 18 (q := 133) (v := .ref (a0 + 57)) rfl (z_lt rfl) (z_L0_T g_19) q524 dX1_canWin_130 rfl (z_fvR (fun _ _ _ => rfl) (z_L0_P18 g_19)) ?_
    refine z_iload_n (q := 134) (i := 3) (x := x3) dX1_canWin_133 rfl rfl rfl ?_
    refine z_iload (q := 136) (i := 5) (x := x5) dX1_canWin_134 rfl rfl ?_
    obtain ⟨g_20, hf⟩ := hf
    refine z_iast (q := 137) (n := 6) (z_L0_A18 g_19) g_20 dX1_canWin_136 rfl ?_
    refine z_aload_n (q := 138) (i := 0) (x := a0) dX1_canWin_137 rfl rfl rfl ?_
    refine z_aload (q := 140) (i := 6) (x := b_8) dX1_canWin_138 rfl rfl ?_
    refine z_iload_n (q := 141) (i := 2) (x := x2) dX1_canWin_140 rfl rfl rfl ?_
    refine z_iconst (q := 142) (v := 1) dX1_canWin_141 rfl rfl ?_
    refine z_isub (q := 143) dX1_canWin_142 rfl ?_
    refine z_iload_n (q := 144) (i := 3) (x := x3) dX1_canWin_143 rfl rfl rfl ?_
    refine z_iconst (q := 145) (v := 1) dX1_canWin_144 rfl rfl ?_
    refine z_iadd (q := 146) dX1_canWin_145 rfl ?_
    obtain ⟨mc_21, hf⟩ := hf
    obtain ⟨ms_22, hf⟩ := hf
    obtain ⟨rc_23, g_24, hf⟩ := hf
    obtain ⟨rs_25, g_26, hf⟩ := hf
    refine z_cVi (m_X1_canWin d mc_21 ms_22) [.ref b_8, .int (x2 - 1), .int (x3 + 1)] (a0) (q := 149) (rc2 := rc_23) (rs2 := rs_25) (st := []) dX1_canWin_146 rfl q1581 oV_X1_canWin rfl rfl (z_room_of (by first | exact z_le rfl | (simp only [z_M.d, z_M.nL, z_M.lo, m_X1_canWin, m_X1_canWin]; omega)) (by first | exact z_le rfl | (simp only [z_M.d, z_M.nL, z_M.lo, m_X1_canWin, m_X1_canWin]; omega))) (z_le rfl) (z_rcv_of 0 rfl (z_L0_T g_19) rfl) g_24  g_26 hf (fun x_27 h_28 hf => ?_)
    refine z_if_eq (q := 152) (tgt := 154) dX1_canWin_149 rfl rfl (fun hc => ?_) (fun hc => ?_)
    · have hf := hf.1 hc
      refine z_iinc (q := 157) (i := 5) (x := x5) (v := (x5 + 1)) (ls2 := [some (.ref a0), none, some (.int x2), some (.int x3), some (.ref a4), some (.int (x5 + 1)), some (.ref b_8)]) dX1_canWin_154 rfl rfl (z_lt rfl) rfl rfl ?_
      refine z_goto (q := 91) dX1_canWin_157 rfl ?_
      refine z_prune [true, false, true, true, true, true, false] (ls2 := [some (.ref a0), none, some (.int x2), some (.int x3), some (.ref a4), some (.int (x5 + 1)), none]) rfl ?_
      exact hf
    · have hf := hf.2 hc
      refine z_iconst (q := 153) (v := 1) dX1_canWin_152 rfl rfl ?_
      exact z_zret dX1_canWin_153 rfl (z_nb01 z_b1) hf

theorem u_X1_card {l : Launch} {G : z_G} {a0 : Nat} {x1 : Int32} {x2 : Int32} {h : z_H} {Q : z_Q} (hst : l.stackTraces = false)  (hf : z_Ct l G m_X1_isSide [.int x1] h (z_Qi (fun x_1 h_2 => (x_1 = 0 → Q (some (.int (-1))) h_2) ∧ (¬ x_1 = 0 → z_L0 h_2 a0 ∧ z_Ct l G m_X11_cards [.ref (a0 + 23), .int x1] h_2 (z_Qi (fun x_5 h_6 => z_Ct l G m_X1_in [.int x2, .int 0, .int (x_5 - 1)] h_6 (z_Qi (fun x_7 h_8 => (x_7 = 0 → Q (some (.int (-1))) h_8) ∧ (¬ x_7 = 0 → z_L0 h_8 a0 ∧ z_Ct l G m_X11_card [.ref (a0 + 23), .int x1, .int x2] h_8 (z_Qi (fun x_11 h_12 => Q (some (.int x_11)) h_12))))))))))) : z_Ct l G m_X1_card [.ref a0, .int x1, .int x2] h Q := by
  refine z_Ct.of (ls := [some (.ref a0), some (.int x1), some (.int x2)]) hst rfl (by decide +kernel) (z_le rfl) rfl ?_
  show z_V l G m_X1_card (z_Fm G m_X1_card Q) 0 0 h 0 [some (.ref a0), some (.int x1), some (.int x2)] []
  refine z_iload_n (q := 1) (i := 1) (x := x1) dX1_card_0 rfl rfl rfl ?_
  refine z_cSi m_X1_isSide [.int x1] (q := 4) (rc2 := 0) (rs2 := 0) (st := []) dX1_card_1 rfl q1274 oS_X1_isSide rfl rfl ⟨z_le rfl, z_le rfl⟩ (z_le rfl) rfl  rfl hf (fun x_1 h_2 hf => ?_)
  refine z_if_eq (q := 7) (tgt := 37) dX1_card_4 rfl rfl (fun hc => ?_) (fun hc => ?_)
  · have hf := hf.1 hc
    refine z_iconst (q := 38) (v := (-1)) dX1_card_37 rfl rfl ?_
    exact z_iret dX1_card_38 rfl hf
  · have hf := hf.2 hc
    refine z_iload_n (q := 8) (i := 2) (x := x2) dX1_card_7 rfl rfl rfl ?_
    refine z_iconst (q := 9) (v := 0) dX1_card_8 rfl rfl ?_
    refine z_aload_n (q := 10) (i := 0) (x := a0) dX1_card_9 rfl rfl rfl ?_
    obtain ⟨g_4, hf⟩ := hf
    refine z_get 0 6 (q := 13) (v := .ref (a0 + 23)) rfl (z_lt rfl) (z_L0_T g_4) q512 dX1_card_10 rfl (z_fvR (fun _ _ _ => rfl) (z_L0_P6 g_4)) ?_
    refine z_iload_n (q := 14) (i := 1) (x := x1) dX1_card_13 rfl rfl rfl ?_
    refine z_cVi m_X11_cards [.int x1] ((a0 + 23)) (q := 17) (rc2 := 0) (rs2 := 0) (st := [.int 0, .int x2]) dX1_card_14 rfl q1262 oV_X11_cards rfl rfl ⟨z_le rfl, z_le rfl⟩ (z_le rfl) (z_rcv_of 9 rfl (z_L9_T (z_L0_N6 g_4)) rfl) rfl  rfl hf (fun x_5 h_6 hf => ?_)
    refine z_iconst (q := 18) (v := 1) dX1_card_17 rfl rfl ?_
    refine z_isub (q := 19) dX1_card_18 rfl ?_
    refine z_cSi m_X1_in [.int x2, .int 0, .int (x_5 - 1)] (q := 22) (rc2 := 0) (rs2 := 0) (st := []) dX1_card_19 rfl q1259 oS_X1_in rfl rfl ⟨z_le rfl, z_le rfl⟩ (z_le rfl) rfl  rfl hf (fun x_7 h_8 hf => ?_)
    refine z_if_eq (q := 25) (tgt := 37) dX1_card_22 rfl rfl (fun hc => ?_) (fun hc => ?_)
    · have hf := hf.1 hc
      refine z_iconst (q := 38) (v := (-1)) dX1_card_37 rfl rfl ?_
      exact z_iret dX1_card_38 rfl hf
    · have hf := hf.2 hc
      refine z_aload_n (q := 26) (i := 0) (x := a0) dX1_card_25 rfl rfl rfl ?_
      obtain ⟨g_10, hf⟩ := hf
      refine z_get 0 6 (q := 29) (v := .ref (a0 + 23)) rfl (z_lt rfl) (z_L0_T g_10) q512 dX1_card_26 rfl (z_fvR (fun _ _ _ => rfl) (z_L0_P6 g_10)) ?_
      refine z_iload_n (q := 30) (i := 1) (x := x1) dX1_card_29 rfl rfl rfl ?_
      refine z_iload_n (q := 31) (i := 2) (x := x2) dX1_card_30 rfl rfl rfl ?_
      refine z_cVi m_X11_card [.int x1, .int x2] ((a0 + 23)) (q := 34) (rc2 := 0) (rs2 := 0) (st := []) dX1_card_31 rfl q1266 oV_X11_card rfl rfl ⟨z_le rfl, z_le rfl⟩ (z_le rfl) (z_rcv_of 9 rfl (z_L9_T (z_L0_N6 g_10)) rfl) rfl  rfl hf (fun x_11 h_12 hf => ?_)
      refine z_goto (q := 38) dX1_card_34 rfl ?_
      exact z_iret dX1_card_38 rfl hf

theorem u_X1_changes {l : Launch} {G : z_G} {a0 : Nat} {x1 : Int32} {x2 : Int32} {h : z_H} {Q : z_Q} (hst : l.stackTraces = false)  (hf : z_L0 h a0 ∧ vp_in x1 24 ∧ ∀ v_3 : Int32, v_3 = (h.I (a0 + 55) (Int32.toNatClampNeg x1)) → vp_in x2 24 ∧ vp_in x1 24 ∧ vp_in x2 24 ∧ Q none ((h.sI (a0 + 55) (Int32.toNatClampNeg x1) (h.I (a0 + 55) (Int32.toNatClampNeg x2))).sI (a0 + 55) (Int32.toNatClampNeg x2) v_3)) : z_Ct l G m_X1_changes [.ref a0, .int x1, .int x2] h Q := by
  refine z_Ct.of (ls := [some (.ref a0), some (.int x1), some (.int x2), none]) hst rfl (by decide +kernel) (z_le rfl) rfl ?_
  show z_V l G m_X1_changes (z_Fm G m_X1_changes Q) 0 0 h 0 [some (.ref a0), some (.int x1), some (.int x2), none] []
  refine z_aload_n (q := 1) (i := 0) (x := a0) dX1_changes_0 rfl rfl rfl ?_
  obtain ⟨g_1, hf⟩ := hf
  refine z_get 0 15 (q := 4) (v := .ref (a0 + 55)) rfl (z_lt rfl) (z_L0_T g_1) q521 dX1_changes_1 rfl (z_fvR (fun _ _ _ => rfl) (z_L0_P15 g_1)) ?_
  refine z_iload_n (q := 5) (i := 1) (x := x1) dX1_changes_4 rfl rfl rfl ?_
  obtain ⟨g_2, hf⟩ := hf
  refine z_iald (q := 6) (n := 24) (z_L0_A15 g_1) g_2 dX1_changes_5 rfl ?_
  refine z_nmI (fun v_3 hv_4 => ?_)
  have hf := hf v_3 hv_4
  refine z_istore_n (q := 7) (i := 3) (ls2 := [some (.ref a0), some (.int x1), some (.int x2), some (.int v_3)]) (x := v_3) dX1_changes_6 rfl (z_lt rfl) rfl rfl ?_
  refine z_aload_n (q := 8) (i := 0) (x := a0) dX1_changes_7 rfl rfl rfl ?_
  refine z_get 0 15 (q := 11) (v := .ref (a0 + 55)) rfl (z_lt rfl) (z_L0_T g_1) q521 dX1_changes_8 rfl (z_fvR (fun _ _ _ => rfl) (z_L0_P15 g_1)) ?_
  refine z_iload_n (q := 12) (i := 1) (x := x1) dX1_changes_11 rfl rfl rfl ?_
  refine z_aload_n (q := 13) (i := 0) (x := a0) dX1_changes_12 rfl rfl rfl ?_
  refine z_get 0 15 (q := 16) (v := .ref (a0 + 55)) rfl (z_lt rfl) (z_L0_T g_1) q521 dX1_changes_13 rfl (z_fvR (fun _ _ _ => rfl) (z_L0_P15 g_1)) ?_
  refine z_iload_n (q := 17) (i := 2) (x := x2) dX1_changes_16 rfl rfl rfl ?_
  obtain ⟨g_5, hf⟩ := hf
  refine z_iald (q := 18) (n := 24) (z_L0_A15 g_1) g_5 dX1_changes_17 rfl ?_
  obtain ⟨g_6, hf⟩ := hf
  refine z_iast (q := 19) (n := 24) (z_L0_A15 g_1) g_6 dX1_changes_18 rfl ?_
  refine z_aload_n (q := 20) (i := 0) (x := a0) dX1_changes_19 rfl rfl rfl ?_
  refine z_get 0 15 (q := 23) (v := .ref (a0 + 55)) rfl (z_lt rfl) (z_L0_T g_1) q521 dX1_changes_20 rfl (z_fvR (fun _ _ _ => rfl) (z_L0_P15 g_1)) ?_
  refine z_iload_n (q := 24) (i := 2) (x := x2) dX1_changes_23 rfl rfl rfl ?_
  refine z_iload_n (q := 25) (i := 3) (x := v_3) dX1_changes_24 rfl rfl rfl ?_
  obtain ⟨g_7, hf⟩ := hf
  refine z_iast (q := 26) (n := 24) (z_L0_A15 g_1) g_7 dX1_changes_25 rfl ?_
  exact z_vret dX1_changes_26 rfl hf

theorem u_X1_choice {l : Launch} {G : z_G} {mc ms : Nat} {a0 : Nat} {x1 : Int32} {x2 : Int32} {h : z_H} {Q : z_Q} (hst : l.stackTraces = false)  (hf : z_Ct l G m_X1_in [.int x1, .int 1, .int 6] h (z_Qi (fun x_1 h_2 => (x_1 = 0 → Q (some (.int (-1))) h_2) ∧ (¬ x_1 = 0 → z_Ct l G m_X1_in [.int x2, .int (-1), .int 5] h_2 (z_Qi (fun x_3 h_4 => (x_3 = 0 → Q (some (.int (-1))) h_4) ∧ (¬ x_3 = 0 → z_L0 h_4 a0 ∧ ((h_4.I (a0 + 23) 16) = 0 → z_V l G (m_X1_choice mc ms) (z_Fm G (m_X1_choice mc ms) Q) mc ms h_4 33 [some (.ref a0), some (.int x1), some (.int x2), some (.int 0)] []) ∧ (¬ (h_4.I (a0 + 23) 16) = 0 → Q (some (.int (-1))) h_4)))))))) : z_Ct l G (m_X1_choice mc ms) [.ref a0, .int x1, .int x2] h Q := by
  refine z_Ct.of (ls := [some (.ref a0), some (.int x1), some (.int x2), none]) hst rfl (by decide +kernel) (z_le rfl) rfl ?_
  show z_V l G (m_X1_choice mc ms) (z_Fm G (m_X1_choice mc ms) Q) mc ms h 0 [some (.ref a0), some (.int x1), some (.int x2), none] []
  refine z_iload_n (q := 1) (i := 1) (x := x1) dX1_choice_0 rfl rfl rfl ?_
  refine z_iconst (q := 2) (v := 1) dX1_choice_1 rfl rfl ?_
  refine z_bipush (q := 4) (v := 6) dX1_choice_2 (by decide) rfl ?_
  refine z_cSi m_X1_in [.int x1, .int 1, .int 6] (q := 7) (rc2 := mc) (rs2 := ms) (st := []) dX1_choice_4 rfl q1259 oS_X1_in rfl rfl ⟨z_le rfl, z_le rfl⟩ (z_le rfl) rfl  rfl hf (fun x_1 h_2 hf => ?_)
  refine z_if_eq (q := 10) (tgt := 29) dX1_choice_7 rfl rfl (fun hc => ?_) (fun hc => ?_)
  · have hf := hf.1 hc
    refine z_iconst (q := 30) (v := (-1)) dX1_choice_29 rfl rfl ?_
    exact z_iret dX1_choice_30 rfl hf
  · have hf := hf.2 hc
    refine z_iload_n (q := 11) (i := 2) (x := x2) dX1_choice_10 rfl rfl rfl ?_
    refine z_iconst (q := 12) (v := (-1)) dX1_choice_11 rfl rfl ?_
    refine z_iconst (q := 13) (v := 5) dX1_choice_12 rfl rfl ?_
    refine z_cSi m_X1_in [.int x2, .int (-1), .int 5] (q := 16) (rc2 := mc) (rs2 := ms) (st := []) dX1_choice_13 rfl q1259 oS_X1_in rfl rfl ⟨z_le rfl, z_le rfl⟩ (z_le rfl) rfl  rfl hf (fun x_3 h_4 hf => ?_)
    refine z_if_eq (q := 19) (tgt := 29) dX1_choice_16 rfl rfl (fun hc => ?_) (fun hc => ?_)
    · have hf := hf.1 hc
      refine z_iconst (q := 30) (v := (-1)) dX1_choice_29 rfl rfl ?_
      exact z_iret dX1_choice_30 rfl hf
    · have hf := hf.2 hc
      refine z_aload_n (q := 20) (i := 0) (x := a0) dX1_choice_19 rfl rfl rfl ?_
      obtain ⟨g_5, hf⟩ := hf
      refine z_get 0 6 (q := 23) (v := .ref (a0 + 23)) rfl (z_lt rfl) (z_L0_T g_5) q512 dX1_choice_20 rfl (z_fvR (fun _ _ _ => rfl) (z_L0_P6 g_5)) ?_
      refine z_getN 9 16 (q := 26) (v := .int (h_4.I (a0 + 23) 16)) rfl (z_lt rfl) (z_L9_T (z_L0_N6 g_5)) (z_nwm q412 rfl) dX1_choice_23 rfl rfl ?_
      refine z_if_eq (q := 29) (tgt := 31) dX1_choice_26 rfl rfl (fun hc => ?_) (fun hc => ?_)
      · have hf := hf.1 hc
        refine z_iconst (q := 32) (v := 0) dX1_choice_31 rfl rfl ?_
        refine z_istore_n (q := 33) (i := 3) (ls2 := [some (.ref a0), some (.int x1), some (.int x2), some (.int 0)]) (x := 0) dX1_choice_32 rfl (z_lt rfl) rfl rfl ?_
        exact hf
      · have hf := hf.2 hc
        refine z_iconst (q := 30) (v := (-1)) dX1_choice_29 rfl rfl ?_
        exact z_iret dX1_choice_30 rfl hf

theorem b_X1_choice_33 {l : Launch} {G : z_G} {mc ms : Nat} {rc rs : Nat} {a0 : Nat} {x1 : Int32} {x2 : Int32} {x3 : Int32} {h : z_H} {Q : z_Q}  (hf : (x1 < x3 → Q (some (.int (-1))) h) ∧ (¬ x1 < x3 → z_L0 h a0 ∧ ∃ mc_2, ∃ ms_3, ∃ rc_4, rc = rc_4 + mc_2 ∧ ∃ rs_6, rs = rs_6 + ms_3 ∧ z_Ct l G (m_X1_canWin 7 mc_2 ms_3) [.ref a0, .ref (a0 + 23), .int x3, .int 0] h (z_Qi (fun x_8 h_9 => (x_8 = 0 → z_V l G (m_X1_choice mc ms) (z_Fm G (m_X1_choice mc ms) Q) rc_4 rs_6 h_9 33 [some (.ref a0), some (.int x1), some (.int x2), some (.int (x3 + 1))] []) ∧ (¬ x_8 = 0 → z_L0 h_9 a0 ∧ ((x2 = (-1) → True) ∧ (¬ x2 = (-1) → ((h_9.I a0 20) ≤ x2 → True) ∧ (¬ (h_9.I a0 20) ≤ x2 → vp_in x2 6 ∧ True))) ∧ Q (some (.int (if x2 = (-1) then x3 else (if (h_9.I a0 20) ≤ x2 then (-1) else (h_9.I (a0 + 57) (Int32.toNatClampNeg x2)))))) h_9))))) : z_V l G (m_X1_choice mc ms) (z_Fm G (m_X1_choice mc ms) Q) rc rs h 33 [some (.ref a0), some (.int x1), some (.int x2), some (.int x3)] [] := by
  refine z_iload_n (q := 34) (i := 3) (x := x3) dX1_choice_33 rfl rfl rfl ?_
  refine z_iload_n (q := 35) (i := 1) (x := x1) dX1_choice_34 rfl rfl rfl ?_
  refine z_icmp_gt (q := 38) (tgt := 85) dX1_choice_35 rfl rfl (fun hc => ?_) (fun hc => ?_)
  · have hf := hf.1 hc
    refine z_iconst (q := 86) (v := (-1)) dX1_choice_85 rfl rfl ?_
    exact z_iret dX1_choice_86 rfl hf
  · have hf := hf.2 hc
    refine z_aload_n (q := 39) (i := 0) (x := a0) dX1_choice_38 rfl rfl rfl ?_
    refine z_aload_n (q := 40) (i := 0) (x := a0) dX1_choice_39 rfl rfl rfl ?_
    obtain ⟨g_1, hf⟩ := hf
    refine z_get 0 6 (q := 43) (v := .ref (a0 + 23)) rfl (z_lt rfl) (z_L0_T g_1) q512 dX1_choice_40 rfl (z_fvR (fun _ _ _ => rfl) (z_L0_P6 g_1)) ?_
    refine z_iload_n (q := 44) (i := 3) (x := x3) dX1_choice_43 rfl rfl rfl ?_
    refine z_iconst (q := 45) (v := 0) dX1_choice_44 rfl rfl ?_
    obtain ⟨mc_2, hf⟩ := hf
    obtain ⟨ms_3, hf⟩ := hf
    obtain ⟨rc_4, g_5, hf⟩ := hf
    obtain ⟨rs_6, g_7, hf⟩ := hf
    refine z_cVi (m_X1_canWin 7 mc_2 ms_3) [.ref (a0 + 23), .int x3, .int 0] (a0) (q := 48) (rc2 := rc_4) (rs2 := rs_6) (st := []) dX1_choice_45 rfl q1581 oV_X1_canWin rfl rfl (z_room_of (by first | exact z_le rfl | (simp only [z_M.d, z_M.nL, z_M.lo, m_X1_canWin, m_X1_choice]; omega)) (by first | exact z_le rfl | (simp only [z_M.d, z_M.nL, z_M.lo, m_X1_canWin, m_X1_choice]; omega))) (z_le rfl) (z_rcv_of 0 rfl (z_L0_T g_1) rfl) g_5  g_7 hf (fun x_8 h_9 hf => ?_)
    refine z_if_eq (q := 51) (tgt := 79) dX1_choice_48 rfl rfl (fun hc => ?_) (fun hc => ?_)
    · have hf := hf.1 hc
      refine z_iinc (q := 82) (i := 3) (x := x3) (v := (x3 + 1)) (ls2 := [some (.ref a0), some (.int x1), some (.int x2), some (.int (x3 + 1))]) dX1_choice_79 rfl rfl (z_lt rfl) rfl rfl ?_
      refine z_goto (q := 33) dX1_choice_82 rfl ?_
      exact hf
    · have hf := hf.2 hc
      refine z_iload_n (q := 52) (i := 2) (x := x2) dX1_choice_51 rfl rfl rfl ?_
      refine z_iconst (q := 53) (v := (-1)) dX1_choice_52 rfl rfl ?_
      obtain ⟨g_10, hf⟩ := hf
      obtain ⟨hsc, hf⟩ := hf
      have hk : z_V l G (m_X1_choice mc ms) (z_Fm G (m_X1_choice mc ms) Q) rc_4 rs_6 h_9 78 [some (.ref a0), some (.int x1), some (.int x2), some (.int x3)] [.int (if x2 = (-1) then x3 else (if (h_9.I a0 20) ≤ x2 then (-1) else (h_9.I (a0 + 57) (Int32.toNatClampNeg x2))))] := by
        exact z_iret dX1_choice_78 rfl hf
      refine z_icmp_ne (q := 56) (tgt := 60) dX1_choice_53 rfl rfl (fun hc => ?_) (fun hc => ?_)
      · have hk := (z_ite hk).2 hc
        have hsc := hsc.2 hc
        refine z_iload_n (q := 61) (i := 2) (x := x2) dX1_choice_60 rfl rfl rfl ?_
        refine z_aload_n (q := 62) (i := 0) (x := a0) dX1_choice_61 rfl rfl rfl ?_
        refine z_get 0 20 (q := 65) (v := .int (h_9.I a0 20)) rfl (z_lt rfl) (z_L0_T g_10) q526 dX1_choice_62 rfl rfl ?_
        refine z_icmp_ge (q := 68) (tgt := 77) dX1_choice_65 rfl rfl (fun hc => ?_) (fun hc => ?_)
        · have hk := (z_ite hk).1 hc
          have hsc := hsc.1 hc
          refine z_iconst (q := 78) (v := (-1)) dX1_choice_77 rfl rfl ?_
          exact hk
        · have hk := (z_ite hk).2 hc
          have hsc := hsc.2 hc
          obtain ⟨g_11, hsc⟩ := hsc
          refine z_aload_n (q := 69) (i := 0) (x := a0) dX1_choice_68 rfl rfl rfl ?_
          refine z_get 0 18 (q := 72) (v := .ref (a0 + 57)) rfl (z_lt rfl) (z_L0_T g_10) q524 dX1_choice_69 rfl (z_fvR (fun _ _ _ => rfl) (z_L0_P18 g_10)) ?_
          refine z_iload_n (q := 73) (i := 2) (x := x2) dX1_choice_72 rfl rfl rfl ?_
          refine z_iald (q := 74) (n := 6) (z_L0_A18 g_10) g_11 dX1_choice_73 rfl ?_
          refine z_goto (q := 78) dX1_choice_74 rfl ?_
          exact hk
      · have hk := (z_ite hk).1 hc
        have hsc := hsc.1 hc
        refine z_iload_n (q := 57) (i := 3) (x := x3) dX1_choice_56 rfl rfl rfl ?_
        refine z_goto (q := 78) dX1_choice_57 rfl ?_
        exact hk

theorem u_X1_clear {l : Launch} {G : z_G} {a0 : Nat} {h : z_H} {Q : z_Q} (hst : l.stackTraces = false)  (hf : z_L0 h a0 ∧ Q (some (.int 1)) (h.sI (a0 + 23) 22 0)) : z_Ct l G m_X1_clear [.ref a0] h Q := by
  refine z_Ct.of (ls := [some (.ref a0)]) hst rfl (by decide +kernel) (z_le rfl) rfl ?_
  show z_V l G m_X1_clear (z_Fm G m_X1_clear Q) 0 0 h 0 [some (.ref a0)] []
  refine z_aload_n (q := 1) (i := 0) (x := a0) dX1_clear_0 rfl rfl rfl ?_
  obtain ⟨g_1, hf⟩ := hf
  refine z_get 0 6 (q := 4) (v := .ref (a0 + 23)) rfl (z_lt rfl) (z_L0_T g_1) q512 dX1_clear_1 rfl (z_fvR (fun _ _ _ => rfl) (z_L0_P6 g_1)) ?_
  refine z_iconst (q := 5) (v := 0) dX1_clear_4 rfl rfl ?_
  refine z_putIN 9 22 (q := 8) (x := 0) (v := .int 0) rfl (z_lt rfl) (z_L9_T (z_L0_N6 g_1)) (z_nwm q424 rfl) rfl dX1_clear_5 rfl rfl rfl rfl (fun _ _ _ => rfl) ?_
  refine z_iconst (q := 9) (v := 1) dX1_clear_8 rfl rfl ?_
  exact z_zret dX1_clear_9 rfl (z_nb01 z_b1) hf

theorem u_X1_comes {l : Launch} {G : z_G} {a0 : Nat} {x1 : Int32} {h : z_H} {Q : z_Q} (hst : l.stackTraces = false)  (hf : z_L0 h a0 ∧ z_Ct l G m_X1_isKind [.ref a0, .int x1] h (z_Qi (fun x_2 h_3 => (x_2 = 0 → Q (some (.int (-1))) h_3) ∧ (¬ x_2 = 0 → z_L0 h_3 a0 ∧ z_Ct l G m_J5_min [.int 12, .int (h_3.I (a0 + 23) 21)] h_3 (z_Qi (fun x_5 h_6 => ((h_3.I (a0 + 23) 22) = x_5 → Q (some (.int (-1))) h_6) ∧ (¬ (h_3.I (a0 + 23) 22) = x_5 → z_L0 h_6 a0 ∧ vp_in (h_6.I (a0 + 23) 22) 12 ∧ Q (some (.int ((h_6.I (a0 + 23) 22) + 1))) ((h_6.sI (a0 + 23) 22 ((h_6.I (a0 + 23) 22) + 1)).sI (a0 + 35) (Int32.toNatClampNeg (h_6.I (a0 + 23) 22)) x1)))))))) : z_Ct l G m_X1_comes [.ref a0, .int x1] h Q := by
  refine z_Ct.of (ls := [some (.ref a0), some (.int x1)]) hst rfl (by decide +kernel) (z_le rfl) rfl ?_
  show z_V l G m_X1_comes (z_Fm G m_X1_comes Q) 0 0 h 0 [some (.ref a0), some (.int x1)] []
  refine z_aload_n (q := 1) (i := 0) (x := a0) dX1_comes_0 rfl rfl rfl ?_
  refine z_iload_n (q := 2) (i := 1) (x := x1) dX1_comes_1 rfl rfl rfl ?_
  obtain ⟨g_1, hf⟩ := hf
  refine z_cVi m_X1_isKind [.int x1] (a0) (q := 5) (rc2 := 0) (rs2 := 0) (st := []) dX1_comes_2 rfl q1250 oV_X1_isKind rfl rfl ⟨z_le rfl, z_le rfl⟩ (z_le rfl) (z_rcv_of 0 rfl (z_L0_T g_1) rfl) rfl  rfl hf (fun x_2 h_3 hf => ?_)
  refine z_if_eq (q := 8) (tgt := 30) dX1_comes_5 rfl rfl (fun hc => ?_) (fun hc => ?_)
  · have hf := hf.1 hc
    refine z_iconst (q := 31) (v := (-1)) dX1_comes_30 rfl rfl ?_
    exact z_iret dX1_comes_31 rfl hf
  · have hf := hf.2 hc
    refine z_aload_n (q := 9) (i := 0) (x := a0) dX1_comes_8 rfl rfl rfl ?_
    obtain ⟨g_4, hf⟩ := hf
    refine z_get 0 6 (q := 12) (v := .ref (a0 + 23)) rfl (z_lt rfl) (z_L0_T g_4) q512 dX1_comes_9 rfl (z_fvR (fun _ _ _ => rfl) (z_L0_P6 g_4)) ?_
    refine z_getN 9 22 (q := 15) (v := .int (h_3.I (a0 + 23) 22)) rfl (z_lt rfl) (z_L9_T (z_L0_N6 g_4)) (z_nwm q424 rfl) dX1_comes_12 rfl rfl ?_
    refine z_bipush (q := 17) (v := 12) dX1_comes_15 (by decide) rfl ?_
    refine z_aload_n (q := 18) (i := 0) (x := a0) dX1_comes_17 rfl rfl rfl ?_
    refine z_get 0 6 (q := 21) (v := .ref (a0 + 23)) rfl (z_lt rfl) (z_L0_T g_4) q512 dX1_comes_18 rfl (z_fvR (fun _ _ _ => rfl) (z_L0_P6 g_4)) ?_
    refine z_getN 9 21 (q := 24) (v := .int (h_3.I (a0 + 23) 21)) rfl (z_lt rfl) (z_L9_T (z_L0_N6 g_4)) (z_nwm q422 rfl) dX1_comes_21 rfl rfl ?_
    refine z_cSi m_J5_min [.int 12, .int (h_3.I (a0 + 23) 21)] (q := 27) (rc2 := 0) (rs2 := 0) (st := [.int (h_3.I (a0 + 23) 22)]) dX1_comes_24 rfl q1548 oS_J5_min rfl rfl ⟨z_le rfl, z_le rfl⟩ (z_le rfl) rfl  rfl hf (fun x_5 h_6 hf => ?_)
    refine z_icmp_ne (q := 30) (tgt := 32) dX1_comes_27 rfl rfl (fun hc => ?_) (fun hc => ?_)
    · have hf := hf.2 hc
      refine z_aload_n (q := 33) (i := 0) (x := a0) dX1_comes_32 rfl rfl rfl ?_
      obtain ⟨g_7, hf⟩ := hf
      refine z_get 0 6 (q := 36) (v := .ref (a0 + 23)) rfl (z_lt rfl) (z_L0_T g_7) q512 dX1_comes_33 rfl (z_fvR (fun _ _ _ => rfl) (z_L0_P6 g_7)) ?_
      refine z_getN 9 20 (q := 39) (v := .ref (a0 + 35)) rfl (z_lt rfl) (z_L9_T (z_L0_N6 g_7)) (z_nwm q420 rfl) dX1_comes_36 rfl (z_fvR (fun _ _ _ => rfl) (z_L9_P20 (z_L0_N6 g_7))) ?_
      refine z_aload_n (q := 40) (i := 0) (x := a0) dX1_comes_39 rfl rfl rfl ?_
      refine z_get 0 6 (q := 43) (v := .ref (a0 + 23)) rfl (z_lt rfl) (z_L0_T g_7) q512 dX1_comes_40 rfl (z_fvR (fun _ _ _ => rfl) (z_L0_P6 g_7)) ?_
      refine z_dup (q := 44) dX1_comes_43 rfl rfl ?_
      refine z_getN 9 22 (q := 47) (v := .int (h_6.I (a0 + 23) 22)) rfl (z_lt rfl) (z_L9_T (z_L0_N6 g_7)) (z_nwm q424 rfl) dX1_comes_44 rfl rfl ?_
      refine z_dup_x1 (q := 48) dX1_comes_47 rfl rfl rfl ?_
      refine z_iconst (q := 49) (v := 1) dX1_comes_48 rfl rfl ?_
      refine z_iadd (q := 50) dX1_comes_49 rfl ?_
      refine z_putIN 9 22 (q := 53) (x := ((h_6.I (a0 + 23) 22) + 1)) (v := .int ((h_6.I (a0 + 23) 22) + 1)) rfl (z_lt rfl) (z_L9_T (z_L0_N6 g_7)) (z_nwm q424 rfl) rfl dX1_comes_50 rfl rfl rfl rfl (fun _ _ _ => rfl) ?_
      refine z_iload_n (q := 54) (i := 1) (x := x1) dX1_comes_53 rfl rfl rfl ?_
      obtain ⟨g_8, hf⟩ := hf
      refine z_iast (q := 55) (n := 12) (z_L9_A20 (z_L0_N6 g_7)) g_8 dX1_comes_54 rfl ?_
      refine z_aload_n (q := 56) (i := 0) (x := a0) dX1_comes_55 rfl rfl rfl ?_
      refine z_get 0 6 (q := 59) (v := .ref (a0 + 23)) rfl (z_lt rfl) (z_L0_T g_7) q512 dX1_comes_56 rfl (z_fvR (fun _ _ _ => rfl) (z_L0_P6 g_7)) ?_
      refine z_getN 9 22 (q := 62) (v := .int ((h_6.I (a0 + 23) 22) + 1)) rfl (z_lt rfl) (z_L9_T (z_L0_N6 g_7)) (z_nwm q424 rfl) dX1_comes_59 rfl (congrArg Value.int (Eq.trans (z_rIa (by omega)) z_rIs)) ?_
      exact z_iret dX1_comes_62 rfl hf
    · have hf := hf.1 hc
      refine z_iconst (q := 31) (v := (-1)) dX1_comes_30 rfl rfl ?_
      exact z_iret dX1_comes_31 rfl hf

theorem u_X1_copies {l : Launch} {G : z_G} {a0 : Nat} {a1 : Nat} {h : z_H} {Q : z_Q} (hst : l.stackTraces = false)  (hf : z_V l G m_X1_copies (z_Fm G m_X1_copies Q) 0 0 h 2 [some (.ref a0), some (.ref a1), some (.int 0)] []) : z_Ct l G m_X1_copies [.ref a0, .ref a1] h Q := by
  refine z_Ct.of (ls := [some (.ref a0), some (.ref a1), none]) hst rfl (by decide +kernel) (z_le rfl) rfl ?_
  show z_V l G m_X1_copies (z_Fm G m_X1_copies Q) 0 0 h 0 [some (.ref a0), some (.ref a1), none] []
  refine z_iconst (q := 1) (v := 0) dX1_copies_0 rfl rfl ?_
  refine z_istore_n (q := 2) (i := 2) (ls2 := [some (.ref a0), some (.ref a1), some (.int 0)]) (x := 0) dX1_copies_1 rfl (z_lt rfl) rfl rfl ?_
  exact hf

theorem b_X1_copies_2 {l : Launch} {G : z_G} {a0 : Nat} {a1 : Nat} {x2 : Int32} {h : z_H} {Q : z_Q}  (hf : ∃ n_1, h.T a1 = (1, n_1) ∧ ((Int32.ofNat n_1) ≤ x2 → Q none h) ∧ (¬ (Int32.ofNat n_1) ≤ x2 → ∃ n_3, h.T a0 = (1, n_3) ∧ vp_in x2 n_3 ∧ vp_in x2 n_1 ∧ z_V l G m_X1_copies (z_Fm G m_X1_copies Q) 0 0 (h.sI a1 (Int32.toNatClampNeg x2) (h.I a0 (Int32.toNatClampNeg x2))) 2 [some (.ref a0), some (.ref a1), some (.int (x2 + 1))] [])) : z_V l G m_X1_copies (z_Fm G m_X1_copies Q) 0 0 h 2 [some (.ref a0), some (.ref a1), some (.int x2)] [] := by
  refine z_iload_n (q := 3) (i := 2) (x := x2) dX1_copies_2 rfl rfl rfl ?_
  refine z_aload_n (q := 4) (i := 1) (x := a1) dX1_copies_3 rfl rfl rfl ?_
  obtain ⟨n_1, g_2, hf⟩ := hf
  refine z_alen (q := 5) (v := (Int32.ofNat n_1)) (n := n_1) g_2 (by decide) rfl dX1_copies_4 rfl ?_
  refine z_icmp_ge (q := 8) (tgt := 20) dX1_copies_5 rfl rfl (fun hc => ?_) (fun hc => ?_)
  · have hf := hf.1 hc
    exact z_vret dX1_copies_20 rfl hf
  · have hf := hf.2 hc
    refine z_aload_n (q := 9) (i := 1) (x := a1) dX1_copies_8 rfl rfl rfl ?_
    refine z_iload_n (q := 10) (i := 2) (x := x2) dX1_copies_9 rfl rfl rfl ?_
    refine z_aload_n (q := 11) (i := 0) (x := a0) dX1_copies_10 rfl rfl rfl ?_
    refine z_iload_n (q := 12) (i := 2) (x := x2) dX1_copies_11 rfl rfl rfl ?_
    obtain ⟨n_3, g_4, hf⟩ := hf
    obtain ⟨g_5, hf⟩ := hf
    refine z_iald (q := 13) (n := n_3) g_4 g_5 dX1_copies_12 rfl ?_
    obtain ⟨g_6, hf⟩ := hf
    refine z_iast (q := 14) (n := n_1) g_2 g_6 dX1_copies_13 rfl ?_
    refine z_iinc (q := 17) (i := 2) (x := x2) (v := (x2 + 1)) (ls2 := [some (.ref a0), some (.ref a1), some (.int (x2 + 1))]) dX1_copies_14 rfl rfl (z_lt rfl) rfl rfl ?_
    refine z_goto (q := 2) dX1_copies_17 rfl ?_
    exact hf

theorem u_X1_count {l : Launch} {G : z_G} {a0 : Nat} {x1 : Int32} {h : z_H} {Q : z_Q} (hst : l.stackTraces = false)  (hf : (x1 = 0 → z_L0 h a0 ∧ z_Ct l G m_X1_kinds [.ref a0] h (z_Qi (fun x_2 h_3 => Q (some (.int x_2)) h_3))) ∧ (x1 = 1 → z_L0 h a0 ∧ ∃ b_5, (h.P a0 4) = some b_5 ∧ z_L8 h b_5 ∧ z_Ct l G m_X10_cards [.ref b_5] h (z_Qi (fun x_8 h_9 => Q (some (.int x_8)) h_9))) ∧ (x1 = 2 → z_L0 h a0 ∧ Q (some (.int (h.I (a0 + 23) 6))) h) ∧ (x1 = 3 → z_L0 h a0 ∧ Q (some (.int (h.I (a0 + 23) 7))) h) ∧ (x1 = 4 → z_L0 h a0 ∧ Q (some (.int (h.I (a0 + 23) 8))) h) ∧ (x1 = 5 → z_L0 h a0 ∧ Q (some (.int (h.I (a0 + 23) 11))) h) ∧ (x1 = 6 → z_L0 h a0 ∧ Q (some (.int (h.I (a0 + 23) 9))) h) ∧ (x1 = 7 → z_L0 h a0 ∧ Q (some (.int (h.I (a0 + 23) 10))) h) ∧ (x1 = 8 → z_L0 h a0 ∧ Q (some (.int (h.I (a0 + 23) 13))) h) ∧ (x1 = 9 → z_L0 h a0 ∧ Q (some (.int (h.I (a0 + 23) 14))) h) ∧ (x1 = 10 → z_L0 h a0 ∧ Q (some (.int (h.I (a0 + 23) 12))) h) ∧ (x1 = 11 → z_L0 h a0 ∧ Q (some (.int (h.I (a0 + 23) 23))) h) ∧ (x1 = 12 → z_L0 h a0 ∧ z_Ct l G m_J2_size [.ref (a0 + 32)] h (z_Qi (fun x_21 h_22 => Q (some (.int x_21)) h_22))) ∧ (x1 = 13 → z_L0 h a0 ∧ ∃ b_24, (h.P a0 5) = some b_24 ∧ (h.T b_24).1 = 31 ∧ z_Ct l G m_J2_size [.ref b_24] h (z_Qi (fun x_27 h_28 => Q (some (.int x_27)) h_28))) ∧ (x1 = 14 → z_L0 h a0 ∧ Q (some (.int (h.I (a0 + 23) 22))) h) ∧ (x1 = 15 → z_L0 h a0 ∧ Q (some (.int (h.I a0 14))) h) ∧ (x1 = 16 → z_L0 h a0 ∧ ∃ b_32, (h.P a0 4) = some b_32 ∧ z_L8 h b_32 ∧ z_Ct l G m_X10_limit [.ref b_32] h (z_Qi (fun x_35 h_36 => Q (some (.int x_35)) h_36))) ∧ (x1 = 17 → z_L0 h a0 ∧ ∃ b_38, (h.P a0 4) = some b_38 ∧ z_L8 h b_38 ∧ z_Ct l G m_X10_order [.ref b_38] h (z_Qi (fun x_41 h_42 => Q (some (.int x_41)) h_42))) ∧ (x1 = 18 → z_L0 h a0 ∧ Q (some (.int (h.I a0 11))) h) ∧ (¬ x1 = 0 ∧ ¬ x1 = 1 ∧ ¬ x1 = 2 ∧ ¬ x1 = 3 ∧ ¬ x1 = 4 ∧ ¬ x1 = 5 ∧ ¬ x1 = 6 ∧ ¬ x1 = 7 ∧ ¬ x1 = 8 ∧ ¬ x1 = 9 ∧ ¬ x1 = 10 ∧ ¬ x1 = 11 ∧ ¬ x1 = 12 ∧ ¬ x1 = 13 ∧ ¬ x1 = 14 ∧ ¬ x1 = 15 ∧ ¬ x1 = 16 ∧ ¬ x1 = 17 ∧ ¬ x1 = 18 → Q (some (.int (-1))) h)) : z_Ct l G m_X1_count [.ref a0, .int x1] h Q := by
  refine z_Ct.of (ls := [some (.ref a0), some (.int x1)]) hst rfl (by decide +kernel) (z_le rfl) rfl ?_
  show z_V l G m_X1_count (z_Fm G m_X1_count Q) 0 0 h 0 [some (.ref a0), some (.int x1)] []
  refine z_iload_n (q := 1) (i := 1) (x := x1) dX1_count_0 rfl rfl rfl ?_
  rcases Decidable.em (x1 = 0) with hc | hc0
  · have hf := hf.1 hc
    refine z_tableIn (q := 92) dX1_count_1 (by rw [hc]; decide) (by rw [hc]; decide) (by rw [hc]; rfl) rfl ?_
    refine z_aload_n (q := 93) (i := 0) (x := a0) dX1_count_92 rfl rfl rfl ?_
    obtain ⟨g_1, hf⟩ := hf
    refine z_cVi m_X1_kinds [] (a0) (q := 96) (rc2 := 0) (rs2 := 0) (st := []) dX1_count_93 rfl q1254 oV_X1_kinds rfl rfl ⟨z_le rfl, z_le rfl⟩ (z_le rfl) (z_rcv_of 0 rfl (z_L0_T g_1) rfl) rfl  rfl hf (fun x_2 h_3 hf => ?_)
    exact z_iret dX1_count_96 rfl hf
  rcases Decidable.em (x1 = 1) with hc | hc1
  · have hf := hf.2.1 hc
    refine z_tableIn (q := 97) dX1_count_1 (by rw [hc]; decide) (by rw [hc]; decide) (by rw [hc]; rfl) rfl ?_
    refine z_aload_n (q := 98) (i := 0) (x := a0) dX1_count_97 rfl rfl rfl ?_
    obtain ⟨g_4, hf⟩ := hf
    obtain ⟨b_5, g_6, hf⟩ := hf
    refine z_get 0 4 (q := 101) (v := .ref b_5) rfl (z_lt rfl) (z_L0_T g_4) q510 dX1_count_98 rfl (z_fvR (fun _ _ _ => rfl) g_6) ?_
    obtain ⟨g_7, hf⟩ := hf
    refine z_cVi m_X10_cards [] (b_5) (q := 104) (rc2 := 0) (rs2 := 0) (st := []) dX1_count_101 rfl q1621 oV_X10_cards rfl rfl ⟨z_le rfl, z_le rfl⟩ (z_le rfl) (z_rcv_of 8 rfl (z_L8_T g_7) rfl) rfl  rfl hf (fun x_8 h_9 hf => ?_)
    exact z_iret dX1_count_104 rfl hf
  rcases Decidable.em (x1 = 2) with hc | hc2
  · have hf := hf.2.2.1 hc
    refine z_tableIn (q := 105) dX1_count_1 (by rw [hc]; decide) (by rw [hc]; decide) (by rw [hc]; rfl) rfl ?_
    refine z_aload_n (q := 106) (i := 0) (x := a0) dX1_count_105 rfl rfl rfl ?_
    obtain ⟨g_10, hf⟩ := hf
    refine z_get 0 6 (q := 109) (v := .ref (a0 + 23)) rfl (z_lt rfl) (z_L0_T g_10) q512 dX1_count_106 rfl (z_fvR (fun _ _ _ => rfl) (z_L0_P6 g_10)) ?_
    refine z_getN 9 6 (q := 112) (v := .int (h.I (a0 + 23) 6)) rfl (z_lt rfl) (z_L9_T (z_L0_N6 g_10)) (z_nwm q387 rfl) dX1_count_109 rfl rfl ?_
    exact z_iret dX1_count_112 rfl hf
  rcases Decidable.em (x1 = 3) with hc | hc3
  · have hf := hf.2.2.2.1 hc
    refine z_tableIn (q := 113) dX1_count_1 (by rw [hc]; decide) (by rw [hc]; decide) (by rw [hc]; rfl) rfl ?_
    refine z_aload_n (q := 114) (i := 0) (x := a0) dX1_count_113 rfl rfl rfl ?_
    obtain ⟨g_11, hf⟩ := hf
    refine z_get 0 6 (q := 117) (v := .ref (a0 + 23)) rfl (z_lt rfl) (z_L0_T g_11) q512 dX1_count_114 rfl (z_fvR (fun _ _ _ => rfl) (z_L0_P6 g_11)) ?_
    refine z_getN 9 7 (q := 120) (v := .int (h.I (a0 + 23) 7)) rfl (z_lt rfl) (z_L9_T (z_L0_N6 g_11)) (z_nwm q390 rfl) dX1_count_117 rfl rfl ?_
    exact z_iret dX1_count_120 rfl hf
  rcases Decidable.em (x1 = 4) with hc | hc4
  · have hf := hf.2.2.2.2.1 hc
    refine z_tableIn (q := 121) dX1_count_1 (by rw [hc]; decide) (by rw [hc]; decide) (by rw [hc]; rfl) rfl ?_
    refine z_aload_n (q := 122) (i := 0) (x := a0) dX1_count_121 rfl rfl rfl ?_
    obtain ⟨g_12, hf⟩ := hf
    refine z_get 0 6 (q := 125) (v := .ref (a0 + 23)) rfl (z_lt rfl) (z_L0_T g_12) q512 dX1_count_122 rfl (z_fvR (fun _ _ _ => rfl) (z_L0_P6 g_12)) ?_
    refine z_getN 9 8 (q := 128) (v := .int (h.I (a0 + 23) 8)) rfl (z_lt rfl) (z_L9_T (z_L0_N6 g_12)) (z_nwm q392 rfl) dX1_count_125 rfl rfl ?_
    exact z_iret dX1_count_128 rfl hf
  rcases Decidable.em (x1 = 5) with hc | hc5
  · have hf := hf.2.2.2.2.2.1 hc
    refine z_tableIn (q := 129) dX1_count_1 (by rw [hc]; decide) (by rw [hc]; decide) (by rw [hc]; rfl) rfl ?_
    refine z_aload_n (q := 130) (i := 0) (x := a0) dX1_count_129 rfl rfl rfl ?_
    obtain ⟨g_13, hf⟩ := hf
    refine z_get 0 6 (q := 133) (v := .ref (a0 + 23)) rfl (z_lt rfl) (z_L0_T g_13) q512 dX1_count_130 rfl (z_fvR (fun _ _ _ => rfl) (z_L0_P6 g_13)) ?_
    refine z_getN 9 11 (q := 136) (v := .int (h.I (a0 + 23) 11)) rfl (z_lt rfl) (z_L9_T (z_L0_N6 g_13)) (z_nwm q399 rfl) dX1_count_133 rfl rfl ?_
    exact z_iret dX1_count_136 rfl hf
  rcases Decidable.em (x1 = 6) with hc | hc6
  · have hf := hf.2.2.2.2.2.2.1 hc
    refine z_tableIn (q := 137) dX1_count_1 (by rw [hc]; decide) (by rw [hc]; decide) (by rw [hc]; rfl) rfl ?_
    refine z_aload_n (q := 138) (i := 0) (x := a0) dX1_count_137 rfl rfl rfl ?_
    obtain ⟨g_14, hf⟩ := hf
    refine z_get 0 6 (q := 141) (v := .ref (a0 + 23)) rfl (z_lt rfl) (z_L0_T g_14) q512 dX1_count_138 rfl (z_fvR (fun _ _ _ => rfl) (z_L0_P6 g_14)) ?_
    refine z_getN 9 9 (q := 144) (v := .int (h.I (a0 + 23) 9)) rfl (z_lt rfl) (z_L9_T (z_L0_N6 g_14)) (z_nwm q394 rfl) dX1_count_141 rfl rfl ?_
    exact z_iret dX1_count_144 rfl hf
  rcases Decidable.em (x1 = 7) with hc | hc7
  · have hf := hf.2.2.2.2.2.2.2.1 hc
    refine z_tableIn (q := 145) dX1_count_1 (by rw [hc]; decide) (by rw [hc]; decide) (by rw [hc]; rfl) rfl ?_
    refine z_aload_n (q := 146) (i := 0) (x := a0) dX1_count_145 rfl rfl rfl ?_
    obtain ⟨g_15, hf⟩ := hf
    refine z_get 0 6 (q := 149) (v := .ref (a0 + 23)) rfl (z_lt rfl) (z_L0_T g_15) q512 dX1_count_146 rfl (z_fvR (fun _ _ _ => rfl) (z_L0_P6 g_15)) ?_
    refine z_getN 9 10 (q := 152) (v := .int (h.I (a0 + 23) 10)) rfl (z_lt rfl) (z_L9_T (z_L0_N6 g_15)) (z_nwm q396 rfl) dX1_count_149 rfl rfl ?_
    exact z_iret dX1_count_152 rfl hf
  rcases Decidable.em (x1 = 8) with hc | hc8
  · have hf := hf.2.2.2.2.2.2.2.2.1 hc
    refine z_tableIn (q := 153) dX1_count_1 (by rw [hc]; decide) (by rw [hc]; decide) (by rw [hc]; rfl) rfl ?_
    refine z_aload_n (q := 154) (i := 0) (x := a0) dX1_count_153 rfl rfl rfl ?_
    obtain ⟨g_16, hf⟩ := hf
    refine z_get 0 6 (q := 157) (v := .ref (a0 + 23)) rfl (z_lt rfl) (z_L0_T g_16) q512 dX1_count_154 rfl (z_fvR (fun _ _ _ => rfl) (z_L0_P6 g_16)) ?_
    refine z_getN 9 13 (q := 160) (v := .int (h.I (a0 + 23) 13)) rfl (z_lt rfl) (z_L9_T (z_L0_N6 g_16)) (z_nwm q405 rfl) dX1_count_157 rfl rfl ?_
    exact z_iret dX1_count_160 rfl hf
  rcases Decidable.em (x1 = 9) with hc | hc9
  · have hf := hf.2.2.2.2.2.2.2.2.2.1 hc
    refine z_tableIn (q := 161) dX1_count_1 (by rw [hc]; decide) (by rw [hc]; decide) (by rw [hc]; rfl) rfl ?_
    refine z_aload_n (q := 162) (i := 0) (x := a0) dX1_count_161 rfl rfl rfl ?_
    obtain ⟨g_17, hf⟩ := hf
    refine z_get 0 6 (q := 165) (v := .ref (a0 + 23)) rfl (z_lt rfl) (z_L0_T g_17) q512 dX1_count_162 rfl (z_fvR (fun _ _ _ => rfl) (z_L0_P6 g_17)) ?_
    refine z_getN 9 14 (q := 168) (v := .int (h.I (a0 + 23) 14)) rfl (z_lt rfl) (z_L9_T (z_L0_N6 g_17)) (z_nwm q408 rfl) dX1_count_165 rfl rfl ?_
    exact z_iret dX1_count_168 rfl hf
  rcases Decidable.em (x1 = 10) with hc | hc10
  · have hf := hf.2.2.2.2.2.2.2.2.2.2.1 hc
    refine z_tableIn (q := 169) dX1_count_1 (by rw [hc]; decide) (by rw [hc]; decide) (by rw [hc]; rfl) rfl ?_
    refine z_aload_n (q := 170) (i := 0) (x := a0) dX1_count_169 rfl rfl rfl ?_
    obtain ⟨g_18, hf⟩ := hf
    refine z_get 0 6 (q := 173) (v := .ref (a0 + 23)) rfl (z_lt rfl) (z_L0_T g_18) q512 dX1_count_170 rfl (z_fvR (fun _ _ _ => rfl) (z_L0_P6 g_18)) ?_
    refine z_getN 9 12 (q := 176) (v := .int (h.I (a0 + 23) 12)) rfl (z_lt rfl) (z_L9_T (z_L0_N6 g_18)) (z_nwm q402 rfl) dX1_count_173 rfl rfl ?_
    exact z_iret dX1_count_176 rfl hf
  rcases Decidable.em (x1 = 11) with hc | hc11
  · have hf := hf.2.2.2.2.2.2.2.2.2.2.2.1 hc
    refine z_tableIn (q := 177) dX1_count_1 (by rw [hc]; decide) (by rw [hc]; decide) (by rw [hc]; rfl) rfl ?_
    refine z_aload_n (q := 178) (i := 0) (x := a0) dX1_count_177 rfl rfl rfl ?_
    obtain ⟨g_19, hf⟩ := hf
    refine z_get 0 6 (q := 181) (v := .ref (a0 + 23)) rfl (z_lt rfl) (z_L0_T g_19) q512 dX1_count_178 rfl (z_fvR (fun _ _ _ => rfl) (z_L0_P6 g_19)) ?_
    refine z_getN 9 23 (q := 184) (v := .int (h.I (a0 + 23) 23)) rfl (z_lt rfl) (z_L9_T (z_L0_N6 g_19)) (z_nwm q426 rfl) dX1_count_181 rfl rfl ?_
    exact z_iret dX1_count_184 rfl hf
  rcases Decidable.em (x1 = 12) with hc | hc12
  · have hf := hf.2.2.2.2.2.2.2.2.2.2.2.2.1 hc
    refine z_tableIn (q := 185) dX1_count_1 (by rw [hc]; decide) (by rw [hc]; decide) (by rw [hc]; rfl) rfl ?_
    refine z_aload_n (q := 186) (i := 0) (x := a0) dX1_count_185 rfl rfl rfl ?_
    obtain ⟨g_20, hf⟩ := hf
    refine z_get 0 6 (q := 189) (v := .ref (a0 + 23)) rfl (z_lt rfl) (z_L0_T g_20) q512 dX1_count_186 rfl (z_fvR (fun _ _ _ => rfl) (z_L0_P6 g_20)) ?_
    refine z_getN 9 18 (q := 192) (v := .ref (a0 + 32)) rfl (z_lt rfl) (z_L9_T (z_L0_N6 g_20)) (z_nwm q416 rfl) dX1_count_189 rfl (z_fvR (fun _ _ _ => rfl) (z_L9_P18 (z_L0_N6 g_20))) ?_
    refine z_cVi m_J2_size [] ((a0 + 32)) (q := 195) (rc2 := 0) (rs2 := 0) (st := []) dX1_count_192 rfl q1258 oV_J2_size rfl rfl ⟨z_le rfl, z_le rfl⟩ (z_le rfl) (z_rcv_of 21 rfl (z_L9_N18 (z_L0_N6 g_20)) rfl) rfl  rfl hf (fun x_21 h_22 hf => ?_)
    exact z_iret dX1_count_195 rfl hf
  rcases Decidable.em (x1 = 13) with hc | hc13
  · have hf := hf.2.2.2.2.2.2.2.2.2.2.2.2.2.1 hc
    refine z_tableIn (q := 196) dX1_count_1 (by rw [hc]; decide) (by rw [hc]; decide) (by rw [hc]; rfl) rfl ?_
    refine z_aload_n (q := 197) (i := 0) (x := a0) dX1_count_196 rfl rfl rfl ?_
    obtain ⟨g_23, hf⟩ := hf
    obtain ⟨b_24, g_25, hf⟩ := hf
    refine z_get 0 5 (q := 200) (v := .ref b_24) rfl (z_lt rfl) (z_L0_T g_23) q511 dX1_count_197 rfl (z_fvR (fun _ _ _ => rfl) g_25) ?_
    obtain ⟨g_26, hf⟩ := hf
    refine z_cVi m_J2_size [] (b_24) (q := 203) (rc2 := 0) (rs2 := 0) (st := []) dX1_count_200 rfl q1258 oV_J2_size rfl rfl ⟨z_le rfl, z_le rfl⟩ (z_le rfl) (z_rcv_of 21 rfl g_26 rfl) rfl  rfl hf (fun x_27 h_28 hf => ?_)
    exact z_iret dX1_count_203 rfl hf
  rcases Decidable.em (x1 = 14) with hc | hc14
  · have hf := hf.2.2.2.2.2.2.2.2.2.2.2.2.2.2.1 hc
    refine z_tableIn (q := 204) dX1_count_1 (by rw [hc]; decide) (by rw [hc]; decide) (by rw [hc]; rfl) rfl ?_
    refine z_aload_n (q := 205) (i := 0) (x := a0) dX1_count_204 rfl rfl rfl ?_
    obtain ⟨g_29, hf⟩ := hf
    refine z_get 0 6 (q := 208) (v := .ref (a0 + 23)) rfl (z_lt rfl) (z_L0_T g_29) q512 dX1_count_205 rfl (z_fvR (fun _ _ _ => rfl) (z_L0_P6 g_29)) ?_
    refine z_getN 9 22 (q := 211) (v := .int (h.I (a0 + 23) 22)) rfl (z_lt rfl) (z_L9_T (z_L0_N6 g_29)) (z_nwm q424 rfl) dX1_count_208 rfl rfl ?_
    exact z_iret dX1_count_211 rfl hf
  rcases Decidable.em (x1 = 15) with hc | hc15
  · have hf := hf.2.2.2.2.2.2.2.2.2.2.2.2.2.2.2.1 hc
    refine z_tableIn (q := 212) dX1_count_1 (by rw [hc]; decide) (by rw [hc]; decide) (by rw [hc]; rfl) rfl ?_
    refine z_aload_n (q := 213) (i := 0) (x := a0) dX1_count_212 rfl rfl rfl ?_
    obtain ⟨g_30, hf⟩ := hf
    refine z_get 0 14 (q := 216) (v := .int (h.I a0 14)) rfl (z_lt rfl) (z_L0_T g_30) q520 dX1_count_213 rfl rfl ?_
    exact z_iret dX1_count_216 rfl hf
  rcases Decidable.em (x1 = 16) with hc | hc16
  · have hf := hf.2.2.2.2.2.2.2.2.2.2.2.2.2.2.2.2.1 hc
    refine z_tableIn (q := 217) dX1_count_1 (by rw [hc]; decide) (by rw [hc]; decide) (by rw [hc]; rfl) rfl ?_
    refine z_aload_n (q := 218) (i := 0) (x := a0) dX1_count_217 rfl rfl rfl ?_
    obtain ⟨g_31, hf⟩ := hf
    obtain ⟨b_32, g_33, hf⟩ := hf
    refine z_get 0 4 (q := 221) (v := .ref b_32) rfl (z_lt rfl) (z_L0_T g_31) q510 dX1_count_218 rfl (z_fvR (fun _ _ _ => rfl) g_33) ?_
    obtain ⟨g_34, hf⟩ := hf
    refine z_cVi m_X10_limit [] (b_32) (q := 224) (rc2 := 0) (rs2 := 0) (st := []) dX1_count_221 rfl q1415 oV_X10_limit rfl rfl ⟨z_le rfl, z_le rfl⟩ (z_le rfl) (z_rcv_of 8 rfl (z_L8_T g_34) rfl) rfl  rfl hf (fun x_35 h_36 hf => ?_)
    exact z_iret dX1_count_224 rfl hf
  rcases Decidable.em (x1 = 17) with hc | hc17
  · have hf := hf.2.2.2.2.2.2.2.2.2.2.2.2.2.2.2.2.2.1 hc
    refine z_tableIn (q := 225) dX1_count_1 (by rw [hc]; decide) (by rw [hc]; decide) (by rw [hc]; rfl) rfl ?_
    refine z_aload_n (q := 226) (i := 0) (x := a0) dX1_count_225 rfl rfl rfl ?_
    obtain ⟨g_37, hf⟩ := hf
    obtain ⟨b_38, g_39, hf⟩ := hf
    refine z_get 0 4 (q := 229) (v := .ref b_38) rfl (z_lt rfl) (z_L0_T g_37) q510 dX1_count_226 rfl (z_fvR (fun _ _ _ => rfl) g_39) ?_
    obtain ⟨g_40, hf⟩ := hf
    refine z_cVi m_X10_order [] (b_38) (q := 232) (rc2 := 0) (rs2 := 0) (st := []) dX1_count_229 rfl q1364 oV_X10_order rfl rfl ⟨z_le rfl, z_le rfl⟩ (z_le rfl) (z_rcv_of 8 rfl (z_L8_T g_40) rfl) rfl  rfl hf (fun x_41 h_42 hf => ?_)
    exact z_iret dX1_count_232 rfl hf
  rcases Decidable.em (x1 = 18) with hc | hc18
  · have hf := hf.2.2.2.2.2.2.2.2.2.2.2.2.2.2.2.2.2.2.1 hc
    refine z_tableIn (q := 233) dX1_count_1 (by rw [hc]; decide) (by rw [hc]; decide) (by rw [hc]; rfl) rfl ?_
    refine z_aload_n (q := 234) (i := 0) (x := a0) dX1_count_233 rfl rfl rfl ?_
    obtain ⟨g_43, hf⟩ := hf
    refine z_get 0 11 (q := 237) (v := .int (h.I a0 11)) rfl (z_lt rfl) (z_L0_T g_43) q517 dX1_count_234 rfl rfl ?_
    exact z_iret dX1_count_237 rfl hf
  have hf := hf.2.2.2.2.2.2.2.2.2.2.2.2.2.2.2.2.2.2.2 ⟨hc0, hc1, hc2, hc3, hc4, hc5, hc6, hc7, hc8, hc9, hc10, hc11, hc12, hc13, hc14, hc15, hc16, hc17, hc18⟩
  refine z_tableOut (q := 238) dX1_count_1 (z_tout 19 (by decide) (fun j hj => ?_)) rfl ?_
  · match j, hj with
    | 0, _ => exact fun z => hc0 (z.trans (by decide))
    | 1, _ => exact fun z => hc1 (z.trans (by decide))
    | 2, _ => exact fun z => hc2 (z.trans (by decide))
    | 3, _ => exact fun z => hc3 (z.trans (by decide))
    | 4, _ => exact fun z => hc4 (z.trans (by decide))
    | 5, _ => exact fun z => hc5 (z.trans (by decide))
    | 6, _ => exact fun z => hc6 (z.trans (by decide))
    | 7, _ => exact fun z => hc7 (z.trans (by decide))
    | 8, _ => exact fun z => hc8 (z.trans (by decide))
    | 9, _ => exact fun z => hc9 (z.trans (by decide))
    | 10, _ => exact fun z => hc10 (z.trans (by decide))
    | 11, _ => exact fun z => hc11 (z.trans (by decide))
    | 12, _ => exact fun z => hc12 (z.trans (by decide))
    | 13, _ => exact fun z => hc13 (z.trans (by decide))
    | 14, _ => exact fun z => hc14 (z.trans (by decide))
    | 15, _ => exact fun z => hc15 (z.trans (by decide))
    | 16, _ => exact fun z => hc16 (z.trans (by decide))
    | 17, _ => exact fun z => hc17 (z.trans (by decide))
    | 18, _ => exact fun z => hc18 (z.trans (by decide))
    | j + 19, hj => exact absurd hj (by omega)
  · skip
    refine z_iconst (q := 239) (v := (-1)) dX1_count_238 rfl rfl ?_
    exact z_iret dX1_count_239 rfl hf

theorem u_X1_deal {l : Launch} {G : z_G} {mc ms : Nat} {a0 : Nat} {h : z_H} {Q : z_Q} (hst : l.stackTraces = false)  (hf : z_L0 h a0 ∧ z_Ct l G m_X1_reads [.ref a0] h (z_Qv (fun h_2 => z_L0 h_2 a0 ∧ ∃ b_4, (h_2.P a0 4) = some b_4 ∧ ∃ mc_6, ∃ ms_7, ∃ rc_8, mc = rc_8 + mc_6 ∧ ∃ rs_10, ms = rs_10 + ms_7 ∧ z_Cz l G (m_X2_deal mc_6 ms_7) [.ref (a0 + 2), .ref b_4] h_2 (z_Qr (fun b_12 h_13 => ∃ n_14, h_13.T b_12 = (9, n_14) ∧ vp_in 0 n_14 ∧ ∃ b_17, (h_13.P b_12 (Int32.toNatClampNeg 0)) = some b_17 ∧ z_L0 h_13 a0 ∧ z_Ct l G m_X1_deals [.ref b_17, .ref (a0 + 49)] h_13 (z_Qv (fun h_20 => ∃ n_21, h_20.T b_12 = (9, n_21) ∧ vp_in 1 n_21 ∧ ∃ b_24, (h_20.P b_12 (Int32.toNatClampNeg 1)) = some b_24 ∧ z_L0 h_20 a0 ∧ z_Ct l G m_X1_deals [.ref b_24, .ref (a0 + 51)] h_20 (z_Qv (fun h_27 => z_L0 h_27 a0 ∧ z_Ct l G m_X1_begins [.ref a0] (h_27.sI a0 12 1) (z_Qv (fun h_29 => Q (some (.int 0)) h_29)))))))) (fun C0 b_30 h_31 => C0 = "BeggarHeaps$Wrong" ∧ (h_31.T b_30).1 = 22 ∧ Q (some (.int (h_31.I b_30 6))) h_31)))) : z_Ct l G (m_X1_deal mc ms) [.ref a0] h Q := by
  refine z_Ct.of (ls := [some (.ref a0), none]) hst rfl (by decide +kernel) (z_le rfl) rfl ?_
  show z_V l G (m_X1_deal mc ms) (z_Fm G (m_X1_deal mc ms) Q) mc ms h 0 [some (.ref a0), none] []
  refine z_aload_n (q := 1) (i := 0) (x := a0) dX1_deal_0 rfl rfl rfl ?_
  obtain ⟨g_1, hf⟩ := hf
  refine z_cVv m_X1_reads [] (a0) (q := 4) (rc2 := mc) (rs2 := ms) (st := []) dX1_deal_1 rfl q585 oV_X1_reads rfl rfl ⟨z_le rfl, z_le rfl⟩ (z_le rfl) (z_rcv_of 0 rfl (z_L0_T g_1) rfl) rfl  rfl hf (fun h_2 hf => ?_)
  refine z_aload_n (q := 5) (i := 0) (x := a0) dX1_deal_4 rfl rfl rfl ?_
  obtain ⟨g_3, hf⟩ := hf
  refine z_get 0 1 (q := 8) (v := .ref (a0 + 2)) rfl (z_lt rfl) (z_L0_T g_3) q505 dX1_deal_5 rfl (z_fvR (fun _ _ _ => rfl) (z_L0_P1 g_3)) ?_
  refine z_aload_n (q := 9) (i := 0) (x := a0) dX1_deal_8 rfl rfl rfl ?_
  obtain ⟨b_4, g_5, hf⟩ := hf
  refine z_get 0 4 (q := 12) (v := .ref b_4) rfl (z_lt rfl) (z_L0_T g_3) q510 dX1_deal_9 rfl (z_fvR (fun _ _ _ => rfl) g_5) ?_
  obtain ⟨mc_6, hf⟩ := hf
  obtain ⟨ms_7, hf⟩ := hf
  obtain ⟨rc_8, g_9, hf⟩ := hf
  obtain ⟨rs_10, g_11, hf⟩ := hf
  refine z_cXr (m_X2_deal mc_6 ms_7) [.ref b_4] ((a0 + 2)) (q := 15) (rc2 := rc_8) (rs2 := rs_10) (st := []) dX1_deal_12 rfl q1192 oV_X2_deal rfl rfl ⟨z_le rfl, z_le rfl⟩ (z_le rfl) (z_rcv_of 1 rfl (z_L0_N1 g_3) rfl) g_9  g_11 hf (fun C0 b_30 h_31 hX => ?_) (fun b_12 h_13 hf => ?_)
  · obtain ⟨rfl, hf⟩ := hX
    refine z_catch (name := "BeggarHeaps$Wrong") rfl (z_le rfl) (z_lt rfl) (by decide) q584 (Or.inl rfl) (z_nwm q733 rfl) ?_
    refine z_astore_n (q := 40) (i := 1) (ls2 := [some (.ref a0), some (.ref b_30)]) (x := b_30) dX1_deal_39 rfl (z_lt rfl) rfl rfl ?_
    refine z_aload_n (q := 41) (i := 1) (x := b_30) dX1_deal_40 rfl rfl rfl ?_
    obtain ⟨g_32, hf⟩ := hf
    refine z_getN 12 6 (q := 44) (v := .int (h_31.I b_30 6)) rfl (z_lt rfl) g_32 (z_nwm q784 rfl) dX1_deal_41 rfl rfl ?_
    exact z_iret dX1_deal_44 rfl hf
  · skip
    refine z_astore_n (q := 16) (i := 1) (ls2 := [some (.ref a0), some (.ref b_12)]) (x := b_12) dX1_deal_15 rfl (z_lt rfl) rfl rfl ?_
    refine z_aload_n (q := 17) (i := 1) (x := b_12) dX1_deal_16 rfl rfl rfl ?_
    refine z_iconst (q := 18) (v := 0) dX1_deal_17 rfl rfl ?_
    obtain ⟨n_14, g_15, hf⟩ := hf
    obtain ⟨g_16, hf⟩ := hf
    obtain ⟨b_17, g_18, hf⟩ := hf
    refine z_aald (q := 19) (n := n_14) (v := .ref b_17) g_15 (by decide) g_16 dX1_deal_18 rfl (z_rfR g_18) ?_
    refine z_aload_n (q := 20) (i := 0) (x := a0) dX1_deal_19 rfl rfl rfl ?_
    obtain ⟨g_19, hf⟩ := hf
    refine z_get 0 8 (q := 23) (v := .ref (a0 + 49)) rfl (z_lt rfl) (z_L0_T g_19) q514 dX1_deal_20 rfl (z_fvR (fun _ _ _ => rfl) (z_L0_P8 g_19)) ?_
    refine z_cSv m_X1_deals [.ref b_17, .ref (a0 + 49)] (q := 26) (rc2 := rc_8) (rs2 := rs_10) (st := []) dX1_deal_23 rfl q1204 oS_X1_deals rfl rfl ⟨z_le rfl, z_le rfl⟩ (z_le rfl) rfl  rfl hf (fun h_20 hf => ?_)
    refine z_aload_n (q := 27) (i := 1) (x := b_12) dX1_deal_26 rfl rfl rfl ?_
    refine z_iconst (q := 28) (v := 1) dX1_deal_27 rfl rfl ?_
    obtain ⟨n_21, g_22, hf⟩ := hf
    obtain ⟨g_23, hf⟩ := hf
    obtain ⟨b_24, g_25, hf⟩ := hf
    refine z_aald (q := 29) (n := n_21) (v := .ref b_24) g_22 (by decide) g_23 dX1_deal_28 rfl (z_rfR g_25) ?_
    refine z_aload_n (q := 30) (i := 0) (x := a0) dX1_deal_29 rfl rfl rfl ?_
    obtain ⟨g_26, hf⟩ := hf
    refine z_get 0 9 (q := 33) (v := .ref (a0 + 51)) rfl (z_lt rfl) (z_L0_T g_26) q515 dX1_deal_30 rfl (z_fvR (fun _ _ _ => rfl) (z_L0_P9 g_26)) ?_
    refine z_cSv m_X1_deals [.ref b_24, .ref (a0 + 51)] (q := 36) (rc2 := rc_8) (rs2 := rs_10) (st := []) dX1_deal_33 rfl q1204 oS_X1_deals rfl rfl ⟨z_le rfl, z_le rfl⟩ (z_le rfl) rfl  rfl hf (fun h_27 hf => ?_)
    refine z_goto (q := 45) dX1_deal_36 rfl ?_
    refine z_aload_n (q := 46) (i := 0) (x := a0) dX1_deal_45 rfl rfl rfl ?_
    refine z_iconst (q := 47) (v := 1) dX1_deal_46 rfl rfl ?_
    obtain ⟨g_28, hf⟩ := hf
    refine z_putI 0 12 (q := 50) (x := 1) (v := .int 1) rfl (z_lt rfl) (z_L0_T g_28) q518 rfl dX1_deal_47 rfl rfl rfl rfl (fun _ _ _ => rfl) ?_
    refine z_aload_n (q := 51) (i := 0) (x := a0) dX1_deal_50 rfl rfl rfl ?_
    refine z_cVv m_X1_begins [] (a0) (q := 54) (rc2 := rc_8) (rs2 := rs_10) (st := []) dX1_deal_51 rfl q1176 oV_X1_begins rfl rfl ⟨z_le rfl, z_le rfl⟩ (z_le rfl) (z_rcv_of 0 rfl (z_L0_T g_28) rfl) rfl  rfl hf (fun h_29 hf => ?_)
    refine z_iconst (q := 55) (v := 0) dX1_deal_54 rfl rfl ?_
    exact z_iret dX1_deal_55 rfl hf

theorem u_X1_deals {l : Launch} {G : z_G} {a0 : Nat} {a1 : Nat} {h : z_H} {Q : z_Q} (hst : l.stackTraces = false)  (hf : z_L10 h a0 ∧ z_L10 h a1 ∧ z_V l G m_X1_deals (z_Fm G m_X1_deals Q) 0 0 (h.sI a1 1 (h.I a0 1)) 18 [some (.ref a0), some (.ref a1), some (.int 0)] []) : z_Ct l G m_X1_deals [.ref a0, .ref a1] h Q := by
  refine z_Ct.of (ls := [some (.ref a0), some (.ref a1), none]) hst rfl (by decide +kernel) (z_le rfl) rfl ?_
  show z_V l G m_X1_deals (z_Fm G m_X1_deals Q) 0 0 h 0 [some (.ref a0), some (.ref a1), none] []
  refine z_aload_n (q := 1) (i := 1) (x := a1) dX1_deals_0 rfl rfl rfl ?_
  refine z_aload_n (q := 2) (i := 0) (x := a0) dX1_deals_1 rfl rfl rfl ?_
  refine z_ifnonnull (q := 9) dX1_deals_2 rfl ?_
  refine z_aload_n (q := 10) (i := 0) (x := a0) dX1_deals_9 rfl rfl rfl ?_
  obtain ⟨g_1, hf⟩ := hf
  refine z_getN 10 1 (q := 13) (v := .int (h.I a0 1)) rfl (z_lt rfl) (z_L10_T g_1) (z_nwm q486 rfl) dX1_deals_10 rfl rfl ?_
  obtain ⟨g_2, hf⟩ := hf
  refine z_putIN 10 1 (q := 16) (x := (h.I a0 1)) (v := .int (h.I a0 1)) rfl (z_lt rfl) (z_L10_T g_2) (z_nwm q486 rfl) rfl dX1_deals_13 rfl rfl rfl rfl (fun _ _ _ => rfl) ?_
  refine z_iconst (q := 17) (v := 0) dX1_deals_16 rfl rfl ?_
  refine z_istore_n (q := 18) (i := 2) (ls2 := [some (.ref a0), some (.ref a1), some (.int 0)]) (x := 0) dX1_deals_17 rfl (z_lt rfl) rfl rfl ?_
  exact hf

theorem u_X1_deals_n1 {l : Launch} {G : z_G} {a1 : Nat} {h : z_H} {Q : z_Q} (hst : l.stackTraces = false)  (hf : z_L10 h a1 ∧ z_V l G m_X1_deals (z_Fm G m_X1_deals Q) 0 0 (h.sI a1 1 0) 18 [some (.null), some (.ref a1), some (.int 0)] []) : z_Ct l G m_X1_deals [.null, .ref a1] h Q := by
  refine z_Ct.of (ls := [some (.null), some (.ref a1), none]) hst rfl (by decide +kernel) (z_le rfl) rfl ?_
  show z_V l G m_X1_deals (z_Fm G m_X1_deals Q) 0 0 h 0 [some (.null), some (.ref a1), none] []
  refine z_aload_n (q := 1) (i := 1) (x := a1) dX1_deals_0 rfl rfl rfl ?_
  refine z_aload_nN (q := 2) (i := 0) dX1_deals_1 rfl rfl rfl ?_
  refine z_ifnonnullN (q := 5) dX1_deals_2 rfl ?_
  refine z_iconst (q := 6) (v := 0) dX1_deals_5 rfl rfl ?_
  refine z_goto (q := 13) dX1_deals_6 rfl ?_
  obtain ⟨g_1, hf⟩ := hf
  refine z_putIN 10 1 (q := 16) (x := 0) (v := .int 0) rfl (z_lt rfl) (z_L10_T g_1) (z_nwm q486 rfl) rfl dX1_deals_13 rfl rfl rfl rfl (fun _ _ _ => rfl) ?_
  refine z_iconst (q := 17) (v := 0) dX1_deals_16 rfl rfl ?_
  refine z_istore_n (q := 18) (i := 2) (ls2 := [some (.null), some (.ref a1), some (.int 0)]) (x := 0) dX1_deals_17 rfl (z_lt rfl) rfl rfl ?_
  exact hf

theorem b_X1_deals_18 {l : Launch} {G : z_G} {a0 : Nat} {a1 : Nat} {x2 : Int32} {h : z_H} {Q : z_Q}  (hf : z_L10 h a1 ∧ ((h.I a1 1) ≤ x2 → Q none h) ∧ (¬ (h.I a1 1) ≤ x2 → z_L10 h a0 ∧ vp_in x2 24 ∧ vp_in x2 24 ∧ z_V l G m_X1_deals (z_Fm G m_X1_deals Q) 0 0 (h.sI (a1 + 1) (Int32.toNatClampNeg x2) (h.I (a0 + 1) (Int32.toNatClampNeg x2))) 18 [some (.ref a0), some (.ref a1), some (.int (x2 + 1))] [])) : z_V l G m_X1_deals (z_Fm G m_X1_deals Q) 0 0 h 18 [some (.ref a0), some (.ref a1), some (.int x2)] [] := by
  refine z_iload_n (q := 19) (i := 2) (x := x2) dX1_deals_18 rfl rfl rfl ?_
  refine z_aload_n (q := 20) (i := 1) (x := a1) dX1_deals_19 rfl rfl rfl ?_
  obtain ⟨g_1, hf⟩ := hf
  refine z_getN 10 1 (q := 23) (v := .int (h.I a1 1)) rfl (z_lt rfl) (z_L10_T g_1) (z_nwm q486 rfl) dX1_deals_20 rfl rfl ?_
  refine z_icmp_ge (q := 26) (tgt := 44) dX1_deals_23 rfl rfl (fun hc => ?_) (fun hc => ?_)
  · have hf := hf.1 hc
    exact z_vret dX1_deals_44 rfl hf
  · have hf := hf.2 hc
    refine z_aload_n (q := 27) (i := 1) (x := a1) dX1_deals_26 rfl rfl rfl ?_
    refine z_getN 10 0 (q := 30) (v := .ref (a1 + 1)) rfl (z_lt rfl) (z_L10_T g_1) (z_nwm q484 rfl) dX1_deals_27 rfl (z_fvR (fun _ _ _ => rfl) (z_L10_P0 g_1)) ?_
    refine z_iload_n (q := 31) (i := 2) (x := x2) dX1_deals_30 rfl rfl rfl ?_
    refine z_aload_n (q := 32) (i := 0) (x := a0) dX1_deals_31 rfl rfl rfl ?_
    obtain ⟨g_2, hf⟩ := hf
    refine z_getN 10 0 (q := 35) (v := .ref (a0 + 1)) rfl (z_lt rfl) (z_L10_T g_2) (z_nwm q484 rfl) dX1_deals_32 rfl (z_fvR (fun _ _ _ => rfl) (z_L10_P0 g_2)) ?_
    refine z_iload_n (q := 36) (i := 2) (x := x2) dX1_deals_35 rfl rfl rfl ?_
    obtain ⟨g_3, hf⟩ := hf
    refine z_iald (q := 37) (n := 24) (z_L10_A0 g_2) g_3 dX1_deals_36 rfl ?_
    obtain ⟨g_4, hf⟩ := hf
    refine z_iast (q := 38) (n := 24) (z_L10_A0 g_1) g_4 dX1_deals_37 rfl ?_
    refine z_iinc (q := 41) (i := 2) (x := x2) (v := (x2 + 1)) (ls2 := [some (.ref a0), some (.ref a1), some (.int (x2 + 1))]) dX1_deals_38 rfl rfl (z_lt rfl) rfl rfl ?_
    refine z_goto (q := 18) dX1_deals_41 rfl ?_
    exact hf

theorem b_X1_deals_18_v1 {l : Launch} {G : z_G} {a1 : Nat} {x2 : Int32} {h : z_H} {Q : z_Q}  (hf : z_L10 h a1 ∧ ((h.I a1 1) ≤ x2 → Q none h) ∧ (¬ (h.I a1 1) ≤ x2 → False)) : z_V l G m_X1_deals (z_Fm G m_X1_deals Q) 0 0 h 18 [some (.null), some (.ref a1), some (.int x2)] [] := by
  refine z_iload_n (q := 19) (i := 2) (x := x2) dX1_deals_18 rfl rfl rfl ?_
  refine z_aload_n (q := 20) (i := 1) (x := a1) dX1_deals_19 rfl rfl rfl ?_
  obtain ⟨g_1, hf⟩ := hf
  refine z_getN 10 1 (q := 23) (v := .int (h.I a1 1)) rfl (z_lt rfl) (z_L10_T g_1) (z_nwm q486 rfl) dX1_deals_20 rfl rfl ?_
  refine z_icmp_ge (q := 26) (tgt := 44) dX1_deals_23 rfl rfl (fun hc => ?_) (fun hc => ?_)
  · have hf := hf.1 hc
    exact z_vret dX1_deals_44 rfl hf
  · have hf := hf.2 hc
    exact hf.elim

theorem u_X1_deals_2 {l : Launch} {G : z_G} {a0 : Nat} {x1 : Int32} {h : z_H} {Q : z_Q} (hst : l.stackTraces = false)  (hf : z_L0 h a0 ∧ z_Ct l G m_X11_begin [.ref (a0 + 36), .int x1] h (z_Qv (fun h_2 => z_V l G m_X1_deals_2 (z_Fm G m_X1_deals_2 Q) 0 0 h_2 10 [some (.ref a0), none, some (.int 0)] []))) : z_Ct l G m_X1_deals_2 [.ref a0, .int x1] h Q := by
  refine z_Ct.of (ls := [some (.ref a0), some (.int x1), none]) hst rfl (by decide +kernel) (z_le rfl) rfl ?_
  show z_V l G m_X1_deals_2 (z_Fm G m_X1_deals_2 Q) 0 0 h 0 [some (.ref a0), some (.int x1), none] []
  refine z_aload_n (q := 1) (i := 0) (x := a0) dX1_deals_2_0 rfl rfl rfl ?_
  obtain ⟨g_1, hf⟩ := hf
  refine z_get 0 7 (q := 4) (v := .ref (a0 + 36)) rfl (z_lt rfl) (z_L0_T g_1) q513 dX1_deals_2_1 rfl (z_fvR (fun _ _ _ => rfl) (z_L0_P7 g_1)) ?_
  refine z_iload_n (q := 5) (i := 1) (x := x1) dX1_deals_2_4 rfl rfl rfl ?_
  refine z_cVv m_X11_begin [.int x1] ((a0 + 36)) (q := 8) (rc2 := 0) (rs2 := 0) (st := []) dX1_deals_2_5 rfl q496 oV_X11_begin rfl rfl ⟨z_le rfl, z_le rfl⟩ (z_le rfl) (z_rcv_of 9 rfl (z_L9_T (z_L0_N7 g_1)) rfl) rfl  rfl hf (fun h_2 hf => ?_)
  refine z_iconst (q := 9) (v := 0) dX1_deals_2_8 rfl rfl ?_
  refine z_istore_n (q := 10) (i := 2) (ls2 := [some (.ref a0), some (.int x1), some (.int 0)]) (x := 0) dX1_deals_2_9 rfl (z_lt rfl) rfl rfl ?_
  refine z_prune [true, false, true] (ls2 := [some (.ref a0), none, some (.int 0)]) rfl ?_
  exact hf

theorem u_X1_deals_2_n1 {l : Launch} {G : z_G} {a0 : Nat} {x1 : Int32} {h : z_H} {Q : z_Q} (hst : l.stackTraces = false)  (hf : z_L0 h a0 ∧ z_Ct l G m_X11_begin [.ref (a0 + 36), .int x1] h (z_Qv (fun h_2 => z_V l G m_X1_deals_2 (z_Fm G m_X1_deals_2 Q) 0 0 h_2 10 [some (.ref a0), none, some (.int 0)] []))) : z_Ct l G m_X1_deals_2 [.ref a0, .int x1] h Q := by
  refine z_Ct.of (ls := [some (.ref a0), some (.int x1), none]) hst rfl (by decide +kernel) (z_le rfl) rfl ?_
  show z_V l G m_X1_deals_2 (z_Fm G m_X1_deals_2 Q) 0 0 h 0 [some (.ref a0), some (.int x1), none] []
  refine z_aload_n (q := 1) (i := 0) (x := a0) dX1_deals_2_0 rfl rfl rfl ?_
  obtain ⟨g_1, hf⟩ := hf
  refine z_get 0 7 (q := 4) (v := .ref (a0 + 36)) rfl (z_lt rfl) (z_L0_T g_1) q513 dX1_deals_2_1 rfl (z_fvR (fun _ _ _ => rfl) (z_L0_P7 g_1)) ?_
  refine z_iload_n (q := 5) (i := 1) (x := x1) dX1_deals_2_4 rfl rfl rfl ?_
  refine z_cVv m_X11_begin [.int x1] ((a0 + 36)) (q := 8) (rc2 := 0) (rs2 := 0) (st := []) dX1_deals_2_5 rfl q496 oV_X11_begin rfl rfl ⟨z_le rfl, z_le rfl⟩ (z_le rfl) (z_rcv_of 9 rfl (z_L9_T (z_L0_N7 g_1)) rfl) rfl  rfl hf (fun h_2 hf => ?_)
  refine z_iconst (q := 9) (v := 0) dX1_deals_2_8 rfl rfl ?_
  refine z_istore_n (q := 10) (i := 2) (ls2 := [some (.ref a0), some (.int x1), some (.int 0)]) (x := 0) dX1_deals_2_9 rfl (z_lt rfl) rfl rfl ?_
  refine z_prune [true, false, true] (ls2 := [some (.ref a0), none, some (.int 0)]) rfl ?_
  exact hf

theorem b_X1_deals_2_10 {l : Launch} {G : z_G} {a0 : Nat} {x2 : Int32} {h : z_H} {Q : z_Q}  (hf : z_L0 h a0 ∧ ((h.I a0 16) ≤ x2 → Q none h) ∧ (¬ (h.I a0 16) ≤ x2 → vp_in x2 24 ∧ z_Ct l G m_X11_gets [.ref (a0 + 36), .int (if ((h.I a0 16) - ((h.I a0 16) / 2)) ≤ x2 then 1 else 0), .int (h.I (a0 + 55) (Int32.toNatClampNeg x2)), .int 0] h (z_Qv (fun h_3 => z_V l G m_X1_deals_2 (z_Fm G m_X1_deals_2 Q) 0 0 h_3 10 [some (.ref a0), none, some (.int (x2 + 1))] [])))) : z_V l G m_X1_deals_2 (z_Fm G m_X1_deals_2 Q) 0 0 h 10 [some (.ref a0), none, some (.int x2)] [] := by
  refine z_iload_n (q := 11) (i := 2) (x := x2) dX1_deals_2_10 rfl rfl rfl ?_
  refine z_aload_n (q := 12) (i := 0) (x := a0) dX1_deals_2_11 rfl rfl rfl ?_
  obtain ⟨g_1, hf⟩ := hf
  refine z_get 0 16 (q := 15) (v := .int (h.I a0 16)) rfl (z_lt rfl) (z_L0_T g_1) q522 dX1_deals_2_12 rfl rfl ?_
  refine z_icmp_ge (q := 18) (tgt := 58) dX1_deals_2_15 rfl rfl (fun hc => ?_) (fun hc => ?_)
  · have hf := hf.1 hc
    exact z_vret dX1_deals_2_58 rfl hf
  · have hf := hf.2 hc
    refine z_aload_n (q := 19) (i := 0) (x := a0) dX1_deals_2_18 rfl rfl rfl ?_
    refine z_get 0 7 (q := 22) (v := .ref (a0 + 36)) rfl (z_lt rfl) (z_L0_T g_1) q513 dX1_deals_2_19 rfl (z_fvR (fun _ _ _ => rfl) (z_L0_P7 g_1)) ?_
    refine z_iload_n (q := 23) (i := 2) (x := x2) dX1_deals_2_22 rfl rfl rfl ?_
    refine z_aload_n (q := 24) (i := 0) (x := a0) dX1_deals_2_23 rfl rfl rfl ?_
    refine z_get 0 16 (q := 27) (v := .int (h.I a0 16)) rfl (z_lt rfl) (z_L0_T g_1) q522 dX1_deals_2_24 rfl rfl ?_
    refine z_aload_n (q := 28) (i := 0) (x := a0) dX1_deals_2_27 rfl rfl rfl ?_
    refine z_get 0 16 (q := 31) (v := .int (h.I a0 16)) rfl (z_lt rfl) (z_L0_T g_1) q522 dX1_deals_2_28 rfl rfl ?_
    refine z_iconst (q := 32) (v := 2) dX1_deals_2_31 rfl rfl ?_
    refine z_idiv (q := 33) dX1_deals_2_32 (by decide) rfl ?_
    refine z_isub (q := 34) dX1_deals_2_33 rfl ?_
    have hk : z_V l G m_X1_deals_2 (z_Fm G m_X1_deals_2 Q) 0 0 h 42 [some (.ref a0), none, some (.int x2)] [.int (if ((h.I a0 16) - ((h.I a0 16) / 2)) ≤ x2 then 1 else 0), .ref (a0 + 36)] := by
      refine z_aload_n (q := 43) (i := 0) (x := a0) dX1_deals_2_42 rfl rfl rfl ?_
      refine z_get 0 15 (q := 46) (v := .ref (a0 + 55)) rfl (z_lt rfl) (z_L0_T g_1) q521 dX1_deals_2_43 rfl (z_fvR (fun _ _ _ => rfl) (z_L0_P15 g_1)) ?_
      refine z_iload_n (q := 47) (i := 2) (x := x2) dX1_deals_2_46 rfl rfl rfl ?_
      obtain ⟨g_2, hf⟩ := hf
      refine z_iald (q := 48) (n := 24) (z_L0_A15 g_1) g_2 dX1_deals_2_47 rfl ?_
      refine z_iconst (q := 49) (v := 0) dX1_deals_2_48 rfl rfl ?_
      refine z_cVv m_X11_gets [.int (if ((h.I a0 16) - ((h.I a0 16) / 2)) ≤ x2 then 1 else 0), .int (h.I (a0 + 55) (Int32.toNatClampNeg x2)), .int 0] ((a0 + 36)) (q := 52) (rc2 := 0) (rs2 := 0) (st := []) dX1_deals_2_49 rfl q1184 oV_X11_gets rfl rfl ⟨z_le rfl, z_le rfl⟩ (z_le rfl) (z_rcv_of 9 rfl (z_L9_T (z_L0_N7 g_1)) rfl) rfl  rfl hf (fun h_3 hf => ?_)
      refine z_iinc (q := 55) (i := 2) (x := x2) (v := (x2 + 1)) (ls2 := [some (.ref a0), none, some (.int (x2 + 1))]) dX1_deals_2_52 rfl rfl (z_lt rfl) rfl rfl ?_
      refine z_goto (q := 10) dX1_deals_2_55 rfl ?_
      exact hf
    refine z_icmp_ge (q := 37) (tgt := 41) dX1_deals_2_34 rfl rfl (fun hc => ?_) (fun hc => ?_)
    · have hk := (z_ite hk).1 hc
      refine z_iconst (q := 42) (v := 1) dX1_deals_2_41 rfl rfl ?_
      exact hk
    · have hk := (z_ite hk).2 hc
      refine z_iconst (q := 38) (v := 0) dX1_deals_2_37 rfl rfl ?_
      refine z_goto (q := 42) dX1_deals_2_38 rfl ?_
      exact hk

theorem u_X1_drawn {l : Launch} {G : z_G} {a0 : Nat} {x1 : Int32} {h : z_H} {Q : z_Q} (hst : l.stackTraces = false)  (hf : z_Ct l G m_X1_in [.int x1, .int 0, .int 9999] h (z_Qi (fun x_1 h_2 => (x_1 = 0 → Q (some (.int 0)) h_2) ∧ (¬ x_1 = 0 → z_L0 h_2 a0 ∧ ∃ b_4, (h_2.P a0 4) = some b_4 ∧ z_L8 h_2 b_4 ∧ z_Ct l G m_X10_cards [.ref b_4] h_2 (z_Qi (fun x_7 h_8 => (x_7 = 0 → Q (some (.int 0)) h_8) ∧ (¬ x_7 = 0 → z_L0 h_8 a0 ∧ z_Ct l G m_X1_shuffles [.ref a0] (h_8.sL a0 21 (Int32.toInt64 x1)) (z_Qv (fun h_10 => z_L0 h_10 a0 ∧ z_V l G m_X1_drawn (z_Fm G m_X1_drawn Q) 0 0 ((h_10.sI (a0 + 49) 1 0).sI (a0 + 51) 1 0) 51 [some (.ref a0), none, some (.int 0), none] []))))))))) : z_Ct l G m_X1_drawn [.ref a0, .int x1] h Q := by
  refine z_Ct.of (ls := [some (.ref a0), some (.int x1), none, none]) hst rfl (by decide +kernel) (z_le rfl) rfl ?_
  show z_V l G m_X1_drawn (z_Fm G m_X1_drawn Q) 0 0 h 0 [some (.ref a0), some (.int x1), none, none] []
  refine z_iload_n (q := 1) (i := 1) (x := x1) dX1_drawn_0 rfl rfl rfl ?_
  refine z_iconst (q := 2) (v := 0) dX1_drawn_1 rfl rfl ?_
  refine z_sipush (q := 5) (v := 9999) dX1_drawn_2 (by decide) rfl ?_
  refine z_cSi m_X1_in [.int x1, .int 0, .int 9999] (q := 8) (rc2 := 0) (rs2 := 0) (st := []) dX1_drawn_5 rfl q1259 oS_X1_in rfl rfl ⟨z_le rfl, z_le rfl⟩ (z_le rfl) rfl  rfl hf (fun x_1 h_2 hf => ?_)
  refine z_if_eq (q := 11) (tgt := 21) dX1_drawn_8 rfl rfl (fun hc => ?_) (fun hc => ?_)
  · have hf := hf.1 hc
    refine z_iconst (q := 22) (v := 0) dX1_drawn_21 rfl rfl ?_
    exact z_zret dX1_drawn_22 rfl (z_nb01 z_b0) hf
  · have hf := hf.2 hc
    refine z_aload_n (q := 12) (i := 0) (x := a0) dX1_drawn_11 rfl rfl rfl ?_
    obtain ⟨g_3, hf⟩ := hf
    obtain ⟨b_4, g_5, hf⟩ := hf
    refine z_get 0 4 (q := 15) (v := .ref b_4) rfl (z_lt rfl) (z_L0_T g_3) q510 dX1_drawn_12 rfl (z_fvR (fun _ _ _ => rfl) g_5) ?_
    obtain ⟨g_6, hf⟩ := hf
    refine z_cVi m_X10_cards [] (b_4) (q := 18) (rc2 := 0) (rs2 := 0) (st := []) dX1_drawn_15 rfl q1621 oV_X10_cards rfl rfl ⟨z_le rfl, z_le rfl⟩ (z_le rfl) (z_rcv_of 8 rfl (z_L8_T g_6) rfl) rfl  rfl hf (fun x_7 h_8 hf => ?_)
    refine z_if_ne (q := 21) (tgt := 23) dX1_drawn_18 rfl rfl (fun hc => ?_) (fun hc => ?_)
    · have hf := hf.2 hc
      refine z_aload_n (q := 24) (i := 0) (x := a0) dX1_drawn_23 rfl rfl rfl ?_
      refine z_iload_n (q := 25) (i := 1) (x := x1) dX1_drawn_24 rfl rfl rfl ?_
      refine z_i2l (q := 26) dX1_drawn_25 rfl ?_
      obtain ⟨g_9, hf⟩ := hf
      refine z_putL 0 21 (q := 29) (x := (Int32.toInt64 x1)) (v := .long (Int32.toInt64 x1)) rfl (z_lt rfl) (z_L0_T g_9) q527 rfl dX1_drawn_26 rfl rfl rfl rfl (fun _ _ _ => rfl) ?_
      refine z_aload_n (q := 30) (i := 0) (x := a0) dX1_drawn_29 rfl rfl rfl ?_
      refine z_cVv m_X1_shuffles [] (a0) (q := 33) (rc2 := 0) (rs2 := 0) (st := []) dX1_drawn_30 rfl q1622 oV_X1_shuffles rfl rfl ⟨z_le rfl, z_le rfl⟩ (z_le rfl) (z_rcv_of 0 rfl (z_L0_T g_9) rfl) rfl  rfl hf (fun h_10 hf => ?_)
      refine z_aload_n (q := 34) (i := 0) (x := a0) dX1_drawn_33 rfl rfl rfl ?_
      obtain ⟨g_11, hf⟩ := hf
      refine z_get 0 8 (q := 37) (v := .ref (a0 + 49)) rfl (z_lt rfl) (z_L0_T g_11) q514 dX1_drawn_34 rfl (z_fvR (fun _ _ _ => rfl) (z_L0_P8 g_11)) ?_
      refine z_iconst (q := 38) (v := 0) dX1_drawn_37 rfl rfl ?_
      refine z_putIN 10 1 (q := 41) (x := 0) (v := .int 0) rfl (z_lt rfl) (z_L10_T (z_L0_N8 g_11)) (z_nwm q486 rfl) rfl dX1_drawn_38 rfl rfl rfl rfl (fun _ _ _ => rfl) ?_
      refine z_aload_n (q := 42) (i := 0) (x := a0) dX1_drawn_41 rfl rfl rfl ?_
      refine z_get 0 9 (q := 45) (v := .ref (a0 + 51)) rfl (z_lt rfl) (z_L0_T g_11) q515 dX1_drawn_42 rfl (z_fvR (fun _ _ _ => rfl) (z_L0_P9 g_11)) ?_
      refine z_iconst (q := 46) (v := 0) dX1_drawn_45 rfl rfl ?_
      refine z_putIN 10 1 (q := 49) (x := 0) (v := .int 0) rfl (z_lt rfl) (z_L10_T (z_L0_N9 g_11)) (z_nwm q486 rfl) rfl dX1_drawn_46 rfl rfl rfl rfl (fun _ _ _ => rfl) ?_
      refine z_iconst (q := 50) (v := 0) dX1_drawn_49 rfl rfl ?_
      refine z_istore_n (q := 51) (i := 2) (ls2 := [some (.ref a0), some (.int x1), some (.int 0), none]) (x := 0) dX1_drawn_50 rfl (z_lt rfl) rfl rfl ?_
      refine z_prune [true, false, true, false] (ls2 := [some (.ref a0), none, some (.int 0), none]) rfl ?_
      exact hf
    · have hf := hf.1 hc
      refine z_iconst (q := 22) (v := 0) dX1_drawn_21 rfl rfl ?_
      exact z_zret dX1_drawn_22 rfl (z_nb01 z_b0) hf

theorem b_X1_drawn_51 {l : Launch} {G : z_G} {a0 : Nat} {x2 : Int32} {h : z_H} {Q : z_Q}  (hf : z_L0 h a0 ∧ ((h.I a0 16) ≤ x2 → z_Ct l G m_X1_begins [.ref a0] (h.sI a0 12 1) (z_Qv (fun h_2 => Q (some (.int 1)) h_2))) ∧ (¬ (h.I a0 16) ≤ x2 → (((h.I a0 16) - ((h.I a0 16) / 2)) ≤ x2 → vp_in x2 24 ∧ vp_in (h.I (a0 + 51) 1) 24 ∧ z_V l G m_X1_drawn (z_Fm G m_X1_drawn Q) 0 0 ((h.sI (a0 + 51) 1 ((h.I (a0 + 51) 1) + 1)).sI (a0 + 52) (Int32.toNatClampNeg (h.I (a0 + 51) 1)) (h.I (a0 + 55) (Int32.toNatClampNeg x2))) 51 [some (.ref a0), none, some (.int (x2 + 1)), none] []) ∧ (¬ ((h.I a0 16) - ((h.I a0 16) / 2)) ≤ x2 → vp_in x2 24 ∧ vp_in (h.I (a0 + 49) 1) 24 ∧ z_V l G m_X1_drawn (z_Fm G m_X1_drawn Q) 0 0 ((h.sI (a0 + 49) 1 ((h.I (a0 + 49) 1) + 1)).sI (a0 + 50) (Int32.toNatClampNeg (h.I (a0 + 49) 1)) (h.I (a0 + 55) (Int32.toNatClampNeg x2))) 51 [some (.ref a0), none, some (.int (x2 + 1)), none] []))) : z_V l G m_X1_drawn (z_Fm G m_X1_drawn Q) 0 0 h 51 [some (.ref a0), none, some (.int x2), none] [] := by
  refine z_iload_n (q := 52) (i := 2) (x := x2) dX1_drawn_51 rfl rfl rfl ?_
  refine z_aload_n (q := 53) (i := 0) (x := a0) dX1_drawn_52 rfl rfl rfl ?_
  obtain ⟨g_1, hf⟩ := hf
  refine z_get 0 16 (q := 56) (v := .int (h.I a0 16)) rfl (z_lt rfl) (z_L0_T g_1) q522 dX1_drawn_53 rfl rfl ?_
  refine z_icmp_ge (q := 59) (tgt := 114) dX1_drawn_56 rfl rfl (fun hc => ?_) (fun hc => ?_)
  · have hf := hf.1 hc
    refine z_aload_n (q := 115) (i := 0) (x := a0) dX1_drawn_114 rfl rfl rfl ?_
    refine z_iconst (q := 116) (v := 1) dX1_drawn_115 rfl rfl ?_
    refine z_putI 0 12 (q := 119) (x := 1) (v := .int 1) rfl (z_lt rfl) (z_L0_T g_1) q518 rfl dX1_drawn_116 rfl rfl rfl rfl (fun _ _ _ => rfl) ?_
    refine z_aload_n (q := 120) (i := 0) (x := a0) dX1_drawn_119 rfl rfl rfl ?_
    refine z_cVv m_X1_begins [] (a0) (q := 123) (rc2 := 0) (rs2 := 0) (st := []) dX1_drawn_120 rfl q1176 oV_X1_begins rfl rfl ⟨z_le rfl, z_le rfl⟩ (z_le rfl) (z_rcv_of 0 rfl (z_L0_T g_1) rfl) rfl  rfl hf (fun h_2 hf => ?_)
    refine z_iconst (q := 124) (v := 1) dX1_drawn_123 rfl rfl ?_
    exact z_zret dX1_drawn_124 rfl (z_nb01 z_b1) hf
  · have hf := hf.2 hc
    refine z_iload_n (q := 60) (i := 2) (x := x2) dX1_drawn_59 rfl rfl rfl ?_
    refine z_aload_n (q := 61) (i := 0) (x := a0) dX1_drawn_60 rfl rfl rfl ?_
    refine z_get 0 16 (q := 64) (v := .int (h.I a0 16)) rfl (z_lt rfl) (z_L0_T g_1) q522 dX1_drawn_61 rfl rfl ?_
    refine z_aload_n (q := 65) (i := 0) (x := a0) dX1_drawn_64 rfl rfl rfl ?_
    refine z_get 0 16 (q := 68) (v := .int (h.I a0 16)) rfl (z_lt rfl) (z_L0_T g_1) q522 dX1_drawn_65 rfl rfl ?_
    refine z_iconst (q := 69) (v := 2) dX1_drawn_68 rfl rfl ?_
    refine z_idiv (q := 70) dX1_drawn_69 (by decide) rfl ?_
    refine z_isub (q := 71) dX1_drawn_70 rfl ?_
    refine z_icmp_ge (q := 74) (tgt := 81) dX1_drawn_71 rfl rfl (fun hc => ?_) (fun hc => ?_)
    · have hf := hf.1 hc
      refine z_aload_n (q := 82) (i := 0) (x := a0) dX1_drawn_81 rfl rfl rfl ?_
      refine z_get 0 9 (q := 85) (v := .ref (a0 + 51)) rfl (z_lt rfl) (z_L0_T g_1) q515 dX1_drawn_82 rfl (z_fvR (fun _ _ _ => rfl) (z_L0_P9 g_1)) ?_
      refine z_astore_n (q := 86) (i := 3) (ls2 := [some (.ref a0), none, some (.int x2), some (.ref (a0 + 51))]) (x := (a0 + 51)) dX1_drawn_85 rfl (z_lt rfl) rfl rfl ?_
      refine z_aload_n (q := 87) (i := 3) (x := (a0 + 51)) dX1_drawn_86 rfl rfl rfl ?_
      refine z_getN 10 0 (q := 90) (v := .ref (a0 + 52)) rfl (z_lt rfl) (z_L10_T (z_L0_N9 g_1)) (z_nwm q484 rfl) dX1_drawn_87 rfl (z_fvR (fun _ _ _ => rfl) (z_L10_P0 (z_L0_N9 g_1))) ?_
      refine z_aload_n (q := 91) (i := 3) (x := (a0 + 51)) dX1_drawn_90 rfl rfl rfl ?_
      refine z_dup (q := 92) dX1_drawn_91 rfl rfl ?_
      refine z_getN 10 1 (q := 95) (v := .int (h.I (a0 + 51) 1)) rfl (z_lt rfl) (z_L10_T (z_L0_N9 g_1)) (z_nwm q486 rfl) dX1_drawn_92 rfl rfl ?_
      refine z_dup_x1 (q := 96) dX1_drawn_95 rfl rfl rfl ?_
      refine z_iconst (q := 97) (v := 1) dX1_drawn_96 rfl rfl ?_
      refine z_iadd (q := 98) dX1_drawn_97 rfl ?_
      refine z_putIN 10 1 (q := 101) (x := ((h.I (a0 + 51) 1) + 1)) (v := .int ((h.I (a0 + 51) 1) + 1)) rfl (z_lt rfl) (z_L10_T (z_L0_N9 g_1)) (z_nwm q486 rfl) rfl dX1_drawn_98 rfl rfl rfl rfl (fun _ _ _ => rfl) ?_
      refine z_aload_n (q := 102) (i := 0) (x := a0) dX1_drawn_101 rfl rfl rfl ?_
      refine z_get 0 15 (q := 105) (v := .ref (a0 + 55)) rfl (z_lt rfl) (z_L0_T g_1) q521 dX1_drawn_102 rfl (z_fvR (fun _ _ _ => rfl) (z_L0_P15 g_1)) ?_
      refine z_iload_n (q := 106) (i := 2) (x := x2) dX1_drawn_105 rfl rfl rfl ?_
      obtain ⟨g_3, hf⟩ := hf
      refine z_iald (q := 107) (n := 24) (z_L0_A15 g_1) g_3 dX1_drawn_106 rfl ?_
      refine z_topI (z_rIa (by omega)) ?_
      obtain ⟨g_4, hf⟩ := hf
      refine z_iast (q := 108) (n := 24) (z_L10_A0 (z_L0_N9 g_1)) g_4 dX1_drawn_107 rfl ?_
      refine z_iinc (q := 111) (i := 2) (x := x2) (v := (x2 + 1)) (ls2 := [some (.ref a0), none, some (.int (x2 + 1)), some (.ref (a0 + 51))]) dX1_drawn_108 rfl rfl (z_lt rfl) rfl rfl ?_
      refine z_goto (q := 51) dX1_drawn_111 rfl ?_
      refine z_prune [true, false, true, false] (ls2 := [some (.ref a0), none, some (.int (x2 + 1)), none]) rfl ?_
      exact hf
    · have hf := hf.2 hc
      refine z_aload_n (q := 75) (i := 0) (x := a0) dX1_drawn_74 rfl rfl rfl ?_
      refine z_get 0 8 (q := 78) (v := .ref (a0 + 49)) rfl (z_lt rfl) (z_L0_T g_1) q514 dX1_drawn_75 rfl (z_fvR (fun _ _ _ => rfl) (z_L0_P8 g_1)) ?_
      refine z_goto (q := 85) dX1_drawn_78 rfl ?_
      refine z_astore_n (q := 86) (i := 3) (ls2 := [some (.ref a0), none, some (.int x2), some (.ref (a0 + 49))]) (x := (a0 + 49)) dX1_drawn_85 rfl (z_lt rfl) rfl rfl ?_
      refine z_aload_n (q := 87) (i := 3) (x := (a0 + 49)) dX1_drawn_86 rfl rfl rfl ?_
      refine z_getN 10 0 (q := 90) (v := .ref (a0 + 50)) rfl (z_lt rfl) (z_L10_T (z_L0_N8 g_1)) (z_nwm q484 rfl) dX1_drawn_87 rfl (z_fvR (fun _ _ _ => rfl) (z_L10_P0 (z_L0_N8 g_1))) ?_
      refine z_aload_n (q := 91) (i := 3) (x := (a0 + 49)) dX1_drawn_90 rfl rfl rfl ?_
      refine z_dup (q := 92) dX1_drawn_91 rfl rfl ?_
      refine z_getN 10 1 (q := 95) (v := .int (h.I (a0 + 49) 1)) rfl (z_lt rfl) (z_L10_T (z_L0_N8 g_1)) (z_nwm q486 rfl) dX1_drawn_92 rfl rfl ?_
      refine z_dup_x1 (q := 96) dX1_drawn_95 rfl rfl rfl ?_
      refine z_iconst (q := 97) (v := 1) dX1_drawn_96 rfl rfl ?_
      refine z_iadd (q := 98) dX1_drawn_97 rfl ?_
      refine z_putIN 10 1 (q := 101) (x := ((h.I (a0 + 49) 1) + 1)) (v := .int ((h.I (a0 + 49) 1) + 1)) rfl (z_lt rfl) (z_L10_T (z_L0_N8 g_1)) (z_nwm q486 rfl) rfl dX1_drawn_98 rfl rfl rfl rfl (fun _ _ _ => rfl) ?_
      refine z_aload_n (q := 102) (i := 0) (x := a0) dX1_drawn_101 rfl rfl rfl ?_
      refine z_get 0 15 (q := 105) (v := .ref (a0 + 55)) rfl (z_lt rfl) (z_L0_T g_1) q521 dX1_drawn_102 rfl (z_fvR (fun _ _ _ => rfl) (z_L0_P15 g_1)) ?_
      refine z_iload_n (q := 106) (i := 2) (x := x2) dX1_drawn_105 rfl rfl rfl ?_
      obtain ⟨g_5, hf⟩ := hf
      refine z_iald (q := 107) (n := 24) (z_L0_A15 g_1) g_5 dX1_drawn_106 rfl ?_
      refine z_topI (z_rIa (by omega)) ?_
      obtain ⟨g_6, hf⟩ := hf
      refine z_iast (q := 108) (n := 24) (z_L10_A0 (z_L0_N8 g_1)) g_6 dX1_drawn_107 rfl ?_
      refine z_iinc (q := 111) (i := 2) (x := x2) (v := (x2 + 1)) (ls2 := [some (.ref a0), none, some (.int (x2 + 1)), some (.ref (a0 + 49))]) dX1_drawn_108 rfl rfl (z_lt rfl) rfl rfl ?_
      refine z_goto (q := 51) dX1_drawn_111 rfl ?_
      refine z_prune [true, false, true, false] (ls2 := [some (.ref a0), none, some (.int (x2 + 1)), none]) rfl ?_
      exact hf

theorem u_X1_draws {l : Launch} {G : z_G} {a0 : Nat} {x1 : Int32} {h : z_H} {Q : z_Q} (hst : l.stackTraces = false)  (hf : z_L0 h a0 ∧ ¬ (Int32.toInt64 x1) = 0 ∧ Q (some (.int (Int64.toInt32 ((((((h.L a0 21) * 1103515245) + 12345) - (((h.L a0 21) * 1103515245) + 12345) / 2147483648 * 2147483648) / 65536) - (((((h.L a0 21) * 1103515245) + 12345) - (((h.L a0 21) * 1103515245) + 12345) / 2147483648 * 2147483648) / 65536) / (Int32.toInt64 x1) * (Int32.toInt64 x1))))) (h.sL a0 21 ((((h.L a0 21) * 1103515245) + 12345) - (((h.L a0 21) * 1103515245) + 12345) / 2147483648 * 2147483648))) : z_Ct l G m_X1_draws [.ref a0, .int x1] h Q := by
  refine z_Ct.of (ls := [some (.ref a0), some (.int x1)]) hst rfl (by decide +kernel) (z_le rfl) rfl ?_
  show z_V l G m_X1_draws (z_Fm G m_X1_draws Q) 0 0 h 0 [some (.ref a0), some (.int x1)] []
  refine z_aload_n (q := 1) (i := 0) (x := a0) dX1_draws_0 rfl rfl rfl ?_
  refine z_aload_n (q := 2) (i := 0) (x := a0) dX1_draws_1 rfl rfl rfl ?_
  obtain ⟨g_1, hf⟩ := hf
  refine z_get 0 21 (q := 5) (v := .long (h.L a0 21)) rfl (z_lt rfl) (z_L0_T g_1) q527 dX1_draws_2 rfl rfl ?_
  refine z_ldc2 (q := 8) (v := 1103515245) q1630 dX1_draws_5 rfl ?_
  refine z_lmul (q := 9) dX1_draws_8 rfl ?_
  refine z_ldc2 (q := 12) (v := 12345) q1631 dX1_draws_9 rfl ?_
  refine z_ladd (q := 13) dX1_draws_12 rfl ?_
  refine z_ldc2 (q := 16) (v := 2147483648) q1632 dX1_draws_13 rfl ?_
  refine z_lrem (q := 17) dX1_draws_16 (by decide) rfl ?_
  refine z_putL 0 21 (q := 20) (x := ((((h.L a0 21) * 1103515245) + 12345) - (((h.L a0 21) * 1103515245) + 12345) / 2147483648 * 2147483648)) (v := .long ((((h.L a0 21) * 1103515245) + 12345) - (((h.L a0 21) * 1103515245) + 12345) / 2147483648 * 2147483648)) rfl (z_lt rfl) (z_L0_T g_1) q527 rfl dX1_draws_17 rfl rfl rfl rfl (fun _ _ _ => rfl) ?_
  refine z_aload_n (q := 21) (i := 0) (x := a0) dX1_draws_20 rfl rfl rfl ?_
  refine z_get 0 21 (q := 24) (v := .long ((((h.L a0 21) * 1103515245) + 12345) - (((h.L a0 21) * 1103515245) + 12345) / 2147483648 * 2147483648)) rfl (z_lt rfl) (z_L0_T g_1) q527 dX1_draws_21 rfl (congrArg Value.long z_rLs) ?_
  refine z_ldc2 (q := 27) (v := 65536) q1633 dX1_draws_24 rfl ?_
  refine z_ldiv (q := 28) dX1_draws_27 (by decide) rfl ?_
  refine z_iload_n (q := 29) (i := 1) (x := x1) dX1_draws_28 rfl rfl rfl ?_
  refine z_i2l (q := 30) dX1_draws_29 rfl ?_
  obtain ⟨g_2, hf⟩ := hf
  refine z_lrem (q := 31) dX1_draws_30 g_2 rfl ?_
  refine z_l2i (q := 32) dX1_draws_31 rfl ?_
  exact z_iret dX1_draws_32 rfl hf

theorem u_X1_ends {l : Launch} {G : z_G} {a0 : Nat} {x1 : Int32} {h : z_H} {Q : z_Q} (hst : l.stackTraces = false)  (hf : z_Ct l G m_X1_in [.int x1, .int 0, .int 3] h (z_Qi (fun x_1 h_2 => (x_1 = 0 → Q (some (.int (-1))) h_2) ∧ (¬ x_1 = 0 → z_L0 h_2 a0 ∧ z_Ct l G m_X1_tries [.ref a0] h_2 (z_Qv (fun h_4 => z_L0 h_4 a0 ∧ Q (some (.int (if x1 = 0 then (h_4.I (a0 + 9) 7) else (if x1 = 1 then (h_4.I (a0 + 9) 8) else (if x1 = 2 then (h_4.I (a0 + 9) 9) else (h_4.I (a0 + 9) 10)))))) h_4)))))) : z_Ct l G m_X1_ends [.ref a0, .int x1] h Q := by
  refine z_Ct.of (ls := [some (.ref a0), some (.int x1)]) hst rfl (by decide +kernel) (z_le rfl) rfl ?_
  show z_V l G m_X1_ends (z_Fm G m_X1_ends Q) 0 0 h 0 [some (.ref a0), some (.int x1)] []
  refine z_iload_n (q := 1) (i := 1) (x := x1) dX1_ends_0 rfl rfl rfl ?_
  refine z_iconst (q := 2) (v := 0) dX1_ends_1 rfl rfl ?_
  refine z_iconst (q := 3) (v := 3) dX1_ends_2 rfl rfl ?_
  refine z_cSi m_X1_in [.int x1, .int 0, .int 3] (q := 6) (rc2 := 0) (rs2 := 0) (st := []) dX1_ends_3 rfl q1259 oS_X1_in rfl rfl ⟨z_le rfl, z_le rfl⟩ (z_le rfl) rfl  rfl hf (fun x_1 h_2 hf => ?_)
  refine z_if_ne (q := 9) (tgt := 11) dX1_ends_6 rfl rfl (fun hc => ?_) (fun hc => ?_)
  · have hf := hf.2 hc
    refine z_aload_n (q := 12) (i := 0) (x := a0) dX1_ends_11 rfl rfl rfl ?_
    obtain ⟨g_3, hf⟩ := hf
    refine z_cVv m_X1_tries [] (a0) (q := 15) (rc2 := 0) (rs2 := 0) (st := []) dX1_ends_12 rfl q1410 oV_X1_tries rfl rfl ⟨z_le rfl, z_le rfl⟩ (z_le rfl) (z_rcv_of 0 rfl (z_L0_T g_3) rfl) rfl  rfl hf (fun h_4 hf => ?_)
    refine z_iload_n (q := 16) (i := 1) (x := x1) dX1_ends_15 rfl rfl rfl ?_
    obtain ⟨g_5, hf⟩ := hf
    have hk : z_V l G m_X1_ends (z_Fm G m_X1_ends Q) 0 0 h_4 66 [some (.ref a0), some (.int x1)] [.int (if x1 = 0 then (h_4.I (a0 + 9) 7) else (if x1 = 1 then (h_4.I (a0 + 9) 8) else (if x1 = 2 then (h_4.I (a0 + 9) 9) else (h_4.I (a0 + 9) 10))))] := by
      exact z_iret dX1_ends_66 rfl hf
    refine z_if_ne (q := 19) (tgt := 29) dX1_ends_16 rfl rfl (fun hc => ?_) (fun hc => ?_)
    · have hk := (z_ite hk).2 hc
      refine z_iload_n (q := 30) (i := 1) (x := x1) dX1_ends_29 rfl rfl rfl ?_
      refine z_iconst (q := 31) (v := 1) dX1_ends_30 rfl rfl ?_
      refine z_icmp_ne (q := 34) (tgt := 44) dX1_ends_31 rfl rfl (fun hc => ?_) (fun hc => ?_)
      · have hk := (z_ite hk).2 hc
        refine z_iload_n (q := 45) (i := 1) (x := x1) dX1_ends_44 rfl rfl rfl ?_
        refine z_iconst (q := 46) (v := 2) dX1_ends_45 rfl rfl ?_
        refine z_icmp_ne (q := 49) (tgt := 59) dX1_ends_46 rfl rfl (fun hc => ?_) (fun hc => ?_)
        · have hk := (z_ite hk).2 hc
          refine z_aload_n (q := 60) (i := 0) (x := a0) dX1_ends_59 rfl rfl rfl ?_
          refine z_get 0 3 (q := 63) (v := .ref (a0 + 9)) rfl (z_lt rfl) (z_L0_T g_5) q508 dX1_ends_60 rfl (z_fvR (fun _ _ _ => rfl) (z_L0_P3 g_5)) ?_
          refine z_getN 7 10 (q := 66) (v := .int (h_4.I (a0 + 9) 10)) rfl (z_lt rfl) (z_L7_T (z_L0_N3 g_5)) (z_nwm q267 rfl) dX1_ends_63 rfl rfl ?_
          exact hk
        · have hk := (z_ite hk).1 hc
          refine z_aload_n (q := 50) (i := 0) (x := a0) dX1_ends_49 rfl rfl rfl ?_
          refine z_get 0 3 (q := 53) (v := .ref (a0 + 9)) rfl (z_lt rfl) (z_L0_T g_5) q508 dX1_ends_50 rfl (z_fvR (fun _ _ _ => rfl) (z_L0_P3 g_5)) ?_
          refine z_getN 7 9 (q := 56) (v := .int (h_4.I (a0 + 9) 9)) rfl (z_lt rfl) (z_L7_T (z_L0_N3 g_5)) (z_nwm q265 rfl) dX1_ends_53 rfl rfl ?_
          refine z_goto (q := 66) dX1_ends_56 rfl ?_
          exact hk
      · have hk := (z_ite hk).1 hc
        refine z_aload_n (q := 35) (i := 0) (x := a0) dX1_ends_34 rfl rfl rfl ?_
        refine z_get 0 3 (q := 38) (v := .ref (a0 + 9)) rfl (z_lt rfl) (z_L0_T g_5) q508 dX1_ends_35 rfl (z_fvR (fun _ _ _ => rfl) (z_L0_P3 g_5)) ?_
        refine z_getN 7 8 (q := 41) (v := .int (h_4.I (a0 + 9) 8)) rfl (z_lt rfl) (z_L7_T (z_L0_N3 g_5)) (z_nwm q263 rfl) dX1_ends_38 rfl rfl ?_
        refine z_goto (q := 66) dX1_ends_41 rfl ?_
        exact hk
    · have hk := (z_ite hk).1 hc
      refine z_aload_n (q := 20) (i := 0) (x := a0) dX1_ends_19 rfl rfl rfl ?_
      refine z_get 0 3 (q := 23) (v := .ref (a0 + 9)) rfl (z_lt rfl) (z_L0_T g_5) q508 dX1_ends_20 rfl (z_fvR (fun _ _ _ => rfl) (z_L0_P3 g_5)) ?_
      refine z_getN 7 7 (q := 26) (v := .int (h_4.I (a0 + 9) 7)) rfl (z_lt rfl) (z_L7_T (z_L0_N3 g_5)) (z_nwm q261 rfl) dX1_ends_23 rfl rfl ?_
      refine z_goto (q := 66) dX1_ends_26 rfl ?_
      exact hk
  · have hf := hf.1 hc
    refine z_iconst (q := 10) (v := (-1)) dX1_ends_9 rfl rfl ?_
    exact z_iret dX1_ends_10 rfl hf

theorem u_X1_feed {l : Launch} {G : z_G} {a0 : Nat} {y1 : Int64} {y3 : Int64} {y5 : Int64} {h : z_H} {Q : z_Q} (hst : l.stackTraces = false)  (hf : z_V l G m_X1_feed (z_Fm G m_X1_feed Q) 0 0 h 3 [some (.ref a0), some (.long y1), none, some (.long y3), none, some (.long y5), none, some (.int 0), none] []) : z_Ct l G m_X1_feed [.ref a0, .long y1, .long y3, .long y5] h Q := by
  refine z_Ct.of (ls := [some (.ref a0), some (.long y1), none, some (.long y3), none, some (.long y5), none, none, none]) hst rfl (by decide +kernel) (z_le rfl) rfl ?_
  show z_V l G m_X1_feed (z_Fm G m_X1_feed Q) 0 0 h 0 [some (.ref a0), some (.long y1), none, some (.long y3), none, some (.long y5), none, none, none] []
  refine z_iconst (q := 1) (v := 0) dX1_feed_0 rfl rfl ?_
  refine z_istore (q := 3) (i := 7) (ls2 := [some (.ref a0), some (.long y1), none, some (.long y3), none, some (.long y5), none, some (.int 0), none]) (x := 0) dX1_feed_1 (z_lt rfl) rfl rfl ?_
  exact hf

theorem b_X1_feed_3 {l : Launch} {G : z_G} {a0 : Nat} {y1 : Int64} {y3 : Int64} {y5 : Int64} {x7 : Int32} {h : z_H} {Q : z_Q}  (hf : (24 ≤ x7 → z_L0 h a0 ∧ Q (some (.int (h.I a0 11))) h) ∧ (¬ 24 ≤ x7 → (8 ≤ x7 → (16 ≤ x7 → z_V l G m_X1_feed (z_Fm G m_X1_feed Q) 0 0 h 34 [some (.ref a0), some (.long y1), none, some (.long y3), none, some (.long y5), none, some (.int x7), none] [.long y5]) ∧ (¬ 16 ≤ x7 → z_V l G m_X1_feed (z_Fm G m_X1_feed Q) 0 0 h 34 [some (.ref a0), some (.long y1), none, some (.long y3), none, some (.long y5), none, some (.int x7), none] [.long y3])) ∧ (¬ 8 ≤ x7 → z_V l G m_X1_feed (z_Fm G m_X1_feed Q) 0 0 h 34 [some (.ref a0), some (.long y1), none, some (.long y3), none, some (.long y5), none, some (.int x7), none] [.long y1]))) : z_V l G m_X1_feed (z_Fm G m_X1_feed Q) 0 0 h 3 [some (.ref a0), some (.long y1), none, some (.long y3), none, some (.long y5), none, some (.int x7), none] [] := by
  refine z_iload (q := 5) (i := 7) (x := x7) dX1_feed_3 rfl rfl ?_
  refine z_bipush (q := 7) (v := 24) dX1_feed_5 (by decide) rfl ?_
  refine z_icmp_ge (q := 10) (tgt := 109) dX1_feed_7 rfl rfl (fun hc => ?_) (fun hc => ?_)
  · have hf := hf.1 hc
    refine z_aload_n (q := 110) (i := 0) (x := a0) dX1_feed_109 rfl rfl rfl ?_
    obtain ⟨g_1, hf⟩ := hf
    refine z_get 0 11 (q := 113) (v := .int (h.I a0 11)) rfl (z_lt rfl) (z_L0_T g_1) q517 dX1_feed_110 rfl rfl ?_
    exact z_iret dX1_feed_113 rfl hf
  · have hf := hf.2 hc
    refine z_iload (q := 12) (i := 7) (x := x7) dX1_feed_10 rfl rfl ?_
    refine z_bipush (q := 14) (v := 8) dX1_feed_12 (by decide) rfl ?_
    refine z_icmp_ge (q := 17) (tgt := 21) dX1_feed_14 rfl rfl (fun hc => ?_) (fun hc => ?_)
    · have hf := hf.1 hc
      refine z_iload (q := 23) (i := 7) (x := x7) dX1_feed_21 rfl rfl ?_
      refine z_bipush (q := 25) (v := 16) dX1_feed_23 (by decide) rfl ?_
      refine z_icmp_ge (q := 28) (tgt := 32) dX1_feed_25 rfl rfl (fun hc => ?_) (fun hc => ?_)
      · have hf := hf.1 hc
        refine z_lload (q := 34) (i := 5) (x := y5) dX1_feed_32 rfl rfl ?_
        exact hf
      · have hf := hf.2 hc
        refine z_lload_n (q := 29) (i := 3) (x := y3) dX1_feed_28 rfl rfl rfl ?_
        refine z_goto (q := 34) dX1_feed_29 rfl ?_
        exact hf
    · have hf := hf.2 hc
      refine z_lload_n (q := 18) (i := 1) (x := y1) dX1_feed_17 rfl rfl rfl ?_
      refine z_goto (q := 34) dX1_feed_18 rfl ?_
      exact hf

theorem b_X1_feed_34 {l : Launch} {G : z_G} {a0 : Nat} {y1 : Int64} {y3 : Int64} {y5 : Int64} {x7 : Int32} {s0 : Int64} {h : z_H} {Q : z_Q}  (hf : ∀ v_1 : Int32, v_1 = ((Int64.toInt32 (s0 >>> (Int32.toInt64 (56 - (8 * (x7 - x7 / 8 * 8))) &&& 63))) &&& 255) → (v_1 = 10 → z_V l G m_X1_feed (z_Fm G m_X1_feed Q) 0 0 h 74 [some (.ref a0), some (.long y1), none, some (.long y3), none, some (.long y5), none, some (.int x7), some (.int v_1)] []) ∧ (¬ v_1 = 10 → (v_1 < 32 → z_V l G m_X1_feed (z_Fm G m_X1_feed Q) 0 0 h 3 [some (.ref a0), some (.long y1), none, some (.long y3), none, some (.long y5), none, some (.int (x7 + 1)), none] []) ∧ (¬ v_1 < 32 → (126 < v_1 → z_V l G m_X1_feed (z_Fm G m_X1_feed Q) 0 0 h 3 [some (.ref a0), some (.long y1), none, some (.long y3), none, some (.long y5), none, some (.int (x7 + 1)), none] []) ∧ (¬ 126 < v_1 → z_V l G m_X1_feed (z_Fm G m_X1_feed Q) 0 0 h 74 [some (.ref a0), some (.long y1), none, some (.long y3), none, some (.long y5), none, some (.int x7), some (.int v_1)] [])))) : z_V l G m_X1_feed (z_Fm G m_X1_feed Q) 0 0 h 34 [some (.ref a0), some (.long y1), none, some (.long y3), none, some (.long y5), none, some (.int x7), none] [.long s0] := by
  refine z_bipush (q := 36) (v := 56) dX1_feed_34 (by decide) rfl ?_
  refine z_bipush (q := 38) (v := 8) dX1_feed_36 (by decide) rfl ?_
  refine z_iload (q := 40) (i := 7) (x := x7) dX1_feed_38 rfl rfl ?_
  refine z_bipush (q := 42) (v := 8) dX1_feed_40 (by decide) rfl ?_
  refine z_irem (q := 43) dX1_feed_42 (by decide) rfl ?_
  refine z_imul (q := 44) dX1_feed_43 rfl ?_
  refine z_isub (q := 45) dX1_feed_44 rfl ?_
  refine z_lshr (q := 46) dX1_feed_45 rfl ?_
  refine z_l2i (q := 47) dX1_feed_46 rfl ?_
  refine z_sipush (q := 50) (v := 255) dX1_feed_47 (by decide) rfl ?_
  refine z_iand (q := 51) dX1_feed_50 rfl ?_
  refine z_nmI (fun v_1 hv_2 => ?_)
  have hf := hf v_1 hv_2
  refine z_istore (q := 53) (i := 8) (ls2 := [some (.ref a0), some (.long y1), none, some (.long y3), none, some (.long y5), none, some (.int x7), some (.int v_1)]) (x := v_1) dX1_feed_51 (z_lt rfl) rfl rfl ?_
  refine z_iload (q := 55) (i := 8) (x := v_1) dX1_feed_53 rfl rfl ?_
  refine z_bipush (q := 57) (v := 10) dX1_feed_55 (by decide) rfl ?_
  refine z_icmp_eq (q := 60) (tgt := 74) dX1_feed_57 rfl rfl (fun hc => ?_) (fun hc => ?_)
  · have hf := hf.1 hc
    exact hf
  · have hf := hf.2 hc
    refine z_iload (q := 62) (i := 8) (x := v_1) dX1_feed_60 rfl rfl ?_
    refine z_bipush (q := 64) (v := 32) dX1_feed_62 (by decide) rfl ?_
    refine z_icmp_lt (q := 67) (tgt := 103) dX1_feed_64 rfl rfl (fun hc => ?_) (fun hc => ?_)
    · have hf := hf.1 hc
      refine z_iinc (q := 106) (i := 7) (x := x7) (v := (x7 + 1)) (ls2 := [some (.ref a0), some (.long y1), none, some (.long y3), none, some (.long y5), none, some (.int (x7 + 1)), some (.int v_1)]) dX1_feed_103 rfl rfl (z_lt rfl) rfl rfl ?_
      refine z_goto (q := 3) dX1_feed_106 rfl ?_
      refine z_prune [true, true, false, true, false, true, false, true, false] (ls2 := [some (.ref a0), some (.long y1), none, some (.long y3), none, some (.long y5), none, some (.int (x7 + 1)), none]) rfl ?_
      exact hf
    · have hf := hf.2 hc
      refine z_iload (q := 69) (i := 8) (x := v_1) dX1_feed_67 rfl rfl ?_
      refine z_bipush (q := 71) (v := 126) dX1_feed_69 (by decide) rfl ?_
      refine z_icmp_gt (q := 74) (tgt := 103) dX1_feed_71 rfl rfl (fun hc => ?_) (fun hc => ?_)
      · have hf := hf.1 hc
        refine z_iinc (q := 106) (i := 7) (x := x7) (v := (x7 + 1)) (ls2 := [some (.ref a0), some (.long y1), none, some (.long y3), none, some (.long y5), none, some (.int (x7 + 1)), some (.int v_1)]) dX1_feed_103 rfl rfl (z_lt rfl) rfl rfl ?_
        refine z_goto (q := 3) dX1_feed_106 rfl ?_
        refine z_prune [true, true, false, true, false, true, false, true, false] (ls2 := [some (.ref a0), some (.long y1), none, some (.long y3), none, some (.long y5), none, some (.int (x7 + 1)), none]) rfl ?_
        exact hf
      · have hf := hf.2 hc
        exact hf

theorem b_X1_feed_74 {l : Launch} {G : z_G} {a0 : Nat} {y1 : Int64} {y3 : Int64} {y5 : Int64} {x7 : Int32} {x8 : Int32} {h : z_H} {Q : z_Q}  (hf : z_L0 h a0 ∧ (1000 ≤ (h.I a0 11) → z_V l G m_X1_feed (z_Fm G m_X1_feed Q) 0 0 h 3 [some (.ref a0), some (.long y1), none, some (.long y3), none, some (.long y5), none, some (.int (x7 + 1)), none] []) ∧ (¬ 1000 ≤ (h.I a0 11) → vp_in (h.I a0 11) 1000 ∧ z_V l G m_X1_feed (z_Fm G m_X1_feed Q) 0 0 ((h.sI a0 11 ((h.I a0 11) + 1)).sI (a0 + 1) (Int32.toNatClampNeg (h.I a0 11)) ((Int32.toInt8 x8).toInt32)) 3 [some (.ref a0), some (.long y1), none, some (.long y3), none, some (.long y5), none, some (.int (x7 + 1)), none] [])) : z_V l G m_X1_feed (z_Fm G m_X1_feed Q) 0 0 h 74 [some (.ref a0), some (.long y1), none, some (.long y3), none, some (.long y5), none, some (.int x7), some (.int x8)] [] := by
  refine z_aload_n (q := 75) (i := 0) (x := a0) dX1_feed_74 rfl rfl rfl ?_
  obtain ⟨g_1, hf⟩ := hf
  refine z_get 0 11 (q := 78) (v := .int (h.I a0 11)) rfl (z_lt rfl) (z_L0_T g_1) q517 dX1_feed_75 rfl rfl ?_
  refine z_sipush (q := 81) (v := 1000) dX1_feed_78 (by decide) rfl ?_
  refine z_icmp_ge (q := 84) (tgt := 103) dX1_feed_81 rfl rfl (fun hc => ?_) (fun hc => ?_)
  · have hf := hf.1 hc
    refine z_iinc (q := 106) (i := 7) (x := x7) (v := (x7 + 1)) (ls2 := [some (.ref a0), some (.long y1), none, some (.long y3), none, some (.long y5), none, some (.int (x7 + 1)), some (.int x8)]) dX1_feed_103 rfl rfl (z_lt rfl) rfl rfl ?_
    refine z_goto (q := 3) dX1_feed_106 rfl ?_
    refine z_prune [true, true, false, true, false, true, false, true, false] (ls2 := [some (.ref a0), some (.long y1), none, some (.long y3), none, some (.long y5), none, some (.int (x7 + 1)), none]) rfl ?_
    exact hf
  · have hf := hf.2 hc
    refine z_aload_n (q := 85) (i := 0) (x := a0) dX1_feed_84 rfl rfl rfl ?_
    refine z_get 0 0 (q := 88) (v := .ref (a0 + 1)) rfl (z_lt rfl) (z_L0_T g_1) q504 dX1_feed_85 rfl (z_fvR (fun _ _ _ => rfl) (z_L0_P0 g_1)) ?_
    refine z_aload_n (q := 89) (i := 0) (x := a0) dX1_feed_88 rfl rfl rfl ?_
    refine z_dup (q := 90) dX1_feed_89 rfl rfl ?_
    refine z_get 0 11 (q := 93) (v := .int (h.I a0 11)) rfl (z_lt rfl) (z_L0_T g_1) q517 dX1_feed_90 rfl rfl ?_
    refine z_dup_x1 (q := 94) dX1_feed_93 rfl rfl rfl ?_
    refine z_iconst (q := 95) (v := 1) dX1_feed_94 rfl rfl ?_
    refine z_iadd (q := 96) dX1_feed_95 rfl ?_
    refine z_putI 0 11 (q := 99) (x := ((h.I a0 11) + 1)) (v := .int ((h.I a0 11) + 1)) rfl (z_lt rfl) (z_L0_T g_1) q517 rfl dX1_feed_96 rfl rfl rfl rfl (fun _ _ _ => rfl) ?_
    refine z_iload (q := 101) (i := 8) (x := x8) dX1_feed_99 rfl rfl ?_
    refine z_i2b (q := 102) dX1_feed_101 rfl ?_
    obtain ⟨g_2, hf⟩ := hf
    refine z_bast (q := 103) (n := 1000) (y := (Int32.toInt8 x8).toInt32) (z_L0_A0 g_1) g_2 (pk_nb _) dX1_feed_102 rfl ?_
    refine z_iinc (q := 106) (i := 7) (x := x7) (v := (x7 + 1)) (ls2 := [some (.ref a0), some (.long y1), none, some (.long y3), none, some (.long y5), none, some (.int (x7 + 1)), some (.int x8)]) dX1_feed_103 rfl rfl (z_lt rfl) rfl rfl ?_
    refine z_goto (q := 3) dX1_feed_106 rfl ?_
    refine z_prune [true, true, false, true, false, true, false, true, false] (ls2 := [some (.ref a0), some (.long y1), none, some (.long y3), none, some (.long y5), none, some (.int (x7 + 1)), none]) rfl ?_
    exact hf

theorem u_X1_firstRow {l : Launch} {G : z_G} {a0 : Nat} {h : z_H} {Q : z_Q} (hst : l.stackTraces = false)  (hf : z_L0 h a0 ∧ z_V l G m_X1_firstRow (z_Fm G m_X1_firstRow Q) 1 8 (h.sI a0 16 0) 7 [some (.ref a0), some (.int 0), none] []) : z_Ct l G m_X1_firstRow [.ref a0] h Q := by
  refine z_Ct.of (ls := [some (.ref a0), none, none]) hst rfl (by decide +kernel) (z_le rfl) rfl ?_
  show z_V l G m_X1_firstRow (z_Fm G m_X1_firstRow Q) 1 8 h 0 [some (.ref a0), none, none] []
  refine z_aload_n (q := 1) (i := 0) (x := a0) dX1_firstRow_0 rfl rfl rfl ?_
  refine z_iconst (q := 2) (v := 0) dX1_firstRow_1 rfl rfl ?_
  obtain ⟨g_1, hf⟩ := hf
  refine z_putI 0 16 (q := 5) (x := 0) (v := .int 0) rfl (z_lt rfl) (z_L0_T g_1) q522 rfl dX1_firstRow_2 rfl rfl rfl rfl (fun _ _ _ => rfl) ?_
  refine z_iconst (q := 6) (v := 0) dX1_firstRow_5 rfl rfl ?_
  refine z_istore_n (q := 7) (i := 1) (ls2 := [some (.ref a0), some (.int 0), none]) (x := 0) dX1_firstRow_6 rfl (z_lt rfl) rfl rfl ?_
  exact hf

theorem b_X1_firstRow_7 {l : Launch} {G : z_G} {rc rs : Nat} {a0 : Nat} {x1 : Int32} {h : z_H} {Q : z_Q}  (hf : z_L0 h a0 ∧ z_Ct l G m_X1_kinds [.ref a0] h (z_Qi (fun x_2 h_3 => (x_2 ≤ x1 → z_L0 h_3 a0 ∧ ((h_3.I a0 16) ≤ 0 → Q (some (.int 0)) h_3) ∧ (¬ (h_3.I a0 16) ≤ 0 → (10 < (h_3.I a0 16) → Q (some (.int 0)) h_3) ∧ (¬ 10 < (h_3.I a0 16) → ∃ rc_5, rc = rc_5 + 1 ∧ ∃ rs_7, rs = rs_7 + 8 ∧ z_Ct l G m_X1_rows [.ref a0] h_3 (z_Qi (fun x_9 h_10 => Q (some (.int (if 20000 < x_9 then 0 else 1))) h_10))))) ∧ (¬ x_2 ≤ x1 → z_V l G m_X1_firstRow (z_Fm G m_X1_firstRow Q) rc rs h_3 17 [some (.ref a0), some (.int x1), some (.int 0)] [])))) : z_V l G m_X1_firstRow (z_Fm G m_X1_firstRow Q) rc rs h 7 [some (.ref a0), some (.int x1), none] [] := by
  refine z_iload_n (q := 8) (i := 1) (x := x1) dX1_firstRow_7 rfl rfl rfl ?_
  refine z_aload_n (q := 9) (i := 0) (x := a0) dX1_firstRow_8 rfl rfl rfl ?_
  obtain ⟨g_1, hf⟩ := hf
  refine z_cVi m_X1_kinds [] (a0) (q := 12) (rc2 := rc) (rs2 := rs) (st := [.int x1]) dX1_firstRow_9 rfl q1254 oV_X1_kinds rfl rfl ⟨z_le rfl, z_le rfl⟩ (z_le rfl) (z_rcv_of 0 rfl (z_L0_T g_1) rfl) rfl  rfl hf (fun x_2 h_3 hf => ?_)
  refine z_icmp_ge (q := 15) (tgt := 59) dX1_firstRow_12 rfl rfl (fun hc => ?_) (fun hc => ?_)
  · have hf := hf.1 hc
    refine z_aload_n (q := 60) (i := 0) (x := a0) dX1_firstRow_59 rfl rfl rfl ?_
    obtain ⟨g_4, hf⟩ := hf
    refine z_get 0 16 (q := 63) (v := .int (h_3.I a0 16)) rfl (z_lt rfl) (z_L0_T g_4) q522 dX1_firstRow_60 rfl rfl ?_
    refine z_if_le (q := 66) (tgt := 89) dX1_firstRow_63 rfl rfl (fun hc => ?_) (fun hc => ?_)
    · have hf := hf.1 hc
      refine z_iconst (q := 90) (v := 0) dX1_firstRow_89 rfl rfl ?_
      exact z_zret dX1_firstRow_90 rfl (z_nb01 z_b0) hf
    · have hf := hf.2 hc
      refine z_aload_n (q := 67) (i := 0) (x := a0) dX1_firstRow_66 rfl rfl rfl ?_
      refine z_get 0 16 (q := 70) (v := .int (h_3.I a0 16)) rfl (z_lt rfl) (z_L0_T g_4) q522 dX1_firstRow_67 rfl rfl ?_
      refine z_bipush (q := 72) (v := 10) dX1_firstRow_70 (by decide) rfl ?_
      refine z_icmp_gt (q := 75) (tgt := 89) dX1_firstRow_72 rfl rfl (fun hc => ?_) (fun hc => ?_)
      · have hf := hf.1 hc
        refine z_iconst (q := 90) (v := 0) dX1_firstRow_89 rfl rfl ?_
        exact z_zret dX1_firstRow_90 rfl (z_nb01 z_b0) hf
      · have hf := hf.2 hc
        refine z_aload_n (q := 76) (i := 0) (x := a0) dX1_firstRow_75 rfl rfl rfl ?_
        obtain ⟨rc_5, g_6, hf⟩ := hf
        obtain ⟨rs_7, g_8, hf⟩ := hf
        refine z_cVi m_X1_rows [] (a0) (q := 79) (rc2 := rc_5) (rs2 := rs_7) (st := []) dX1_firstRow_76 rfl q1453 oV_X1_rows rfl rfl ⟨z_le rfl, z_le rfl⟩ (z_le rfl) (z_rcv_of 0 rfl (z_L0_T g_4) rfl) g_6  g_8 hf (fun x_9 h_10 hf => ?_)
        refine z_sipush (q := 82) (v := 20000) dX1_firstRow_79 (by decide) rfl ?_
        have hk : z_V l G m_X1_firstRow (z_Fm G m_X1_firstRow Q) rc_5 rs_7 h_10 90 [some (.ref a0), some (.int x1), none] [.int (if 20000 < x_9 then 0 else 1)] := by
          exact z_zret dX1_firstRow_90 rfl (z_nb01 (z_bif z_b0 z_b1)) hf
        refine z_icmp_gt (q := 85) (tgt := 89) dX1_firstRow_82 rfl rfl (fun hc => ?_) (fun hc => ?_)
        · have hk := (z_ite hk).1 hc
          refine z_iconst (q := 90) (v := 0) dX1_firstRow_89 rfl rfl ?_
          exact hk
        · have hk := (z_ite hk).2 hc
          refine z_iconst (q := 86) (v := 1) dX1_firstRow_85 rfl rfl ?_
          refine z_goto (q := 90) dX1_firstRow_86 rfl ?_
          exact hk
  · have hf := hf.2 hc
    refine z_iconst (q := 16) (v := 0) dX1_firstRow_15 rfl rfl ?_
    refine z_istore_n (q := 17) (i := 2) (ls2 := [some (.ref a0), some (.int x1), some (.int 0)]) (x := 0) dX1_firstRow_16 rfl (z_lt rfl) rfl rfl ?_
    exact hf

theorem b_X1_firstRow_17 {l : Launch} {G : z_G} {rc rs : Nat} {a0 : Nat} {x1 : Int32} {x2 : Int32} {h : z_H} {Q : z_Q}  (hf : z_L0 h a0 ∧ ∃ b_2, (h.P a0 4) = some b_2 ∧ z_L8 h b_2 ∧ vp_in x1 8 ∧ ((h.I (b_2 + 4) (Int32.toNatClampNeg x1)) ≤ x2 → z_V l G m_X1_firstRow (z_Fm G m_X1_firstRow Q) rc rs h 7 [some (.ref a0), some (.int (x1 + 1)), none] []) ∧ (¬ (h.I (b_2 + 4) (Int32.toNatClampNeg x1)) ≤ x2 → vp_in (h.I a0 16) 24 ∧ z_V l G m_X1_firstRow (z_Fm G m_X1_firstRow Q) rc rs ((h.sI a0 16 ((h.I a0 16) + 1)).sI (a0 + 55) (Int32.toNatClampNeg (h.I a0 16)) x1) 17 [some (.ref a0), some (.int x1), some (.int (x2 + 1))] [])) : z_V l G m_X1_firstRow (z_Fm G m_X1_firstRow Q) rc rs h 17 [some (.ref a0), some (.int x1), some (.int x2)] [] := by
  refine z_iload_n (q := 18) (i := 2) (x := x2) dX1_firstRow_17 rfl rfl rfl ?_
  refine z_aload_n (q := 19) (i := 0) (x := a0) dX1_firstRow_18 rfl rfl rfl ?_
  obtain ⟨g_1, hf⟩ := hf
  obtain ⟨b_2, g_3, hf⟩ := hf
  refine z_get 0 4 (q := 22) (v := .ref b_2) rfl (z_lt rfl) (z_L0_T g_1) q510 dX1_firstRow_19 rfl (z_fvR (fun _ _ _ => rfl) g_3) ?_
  obtain ⟨g_4, hf⟩ := hf
  refine z_getN 8 2 (q := 25) (v := .ref (b_2 + 4)) rfl (z_lt rfl) (z_L8_T g_4) (z_nwm q338 rfl) dX1_firstRow_22 rfl (z_fvR (fun _ _ _ => rfl) (z_L8_P2 g_4)) ?_
  refine z_iload_n (q := 26) (i := 1) (x := x1) dX1_firstRow_25 rfl rfl rfl ?_
  obtain ⟨g_5, hf⟩ := hf
  refine z_iald (q := 27) (n := 8) (z_L8_A2 g_4) g_5 dX1_firstRow_26 rfl ?_
  refine z_icmp_ge (q := 30) (tgt := 53) dX1_firstRow_27 rfl rfl (fun hc => ?_) (fun hc => ?_)
  · have hf := hf.1 hc
    refine z_iinc (q := 56) (i := 1) (x := x1) (v := (x1 + 1)) (ls2 := [some (.ref a0), some (.int (x1 + 1)), some (.int x2)]) dX1_firstRow_53 rfl rfl (z_lt rfl) rfl rfl ?_
    refine z_goto (q := 7) dX1_firstRow_56 rfl ?_
    refine z_prune [true, true, false] (ls2 := [some (.ref a0), some (.int (x1 + 1)), none]) rfl ?_
    exact hf
  · have hf := hf.2 hc
    refine z_aload_n (q := 31) (i := 0) (x := a0) dX1_firstRow_30 rfl rfl rfl ?_
    refine z_get 0 15 (q := 34) (v := .ref (a0 + 55)) rfl (z_lt rfl) (z_L0_T g_1) q521 dX1_firstRow_31 rfl (z_fvR (fun _ _ _ => rfl) (z_L0_P15 g_1)) ?_
    refine z_aload_n (q := 35) (i := 0) (x := a0) dX1_firstRow_34 rfl rfl rfl ?_
    refine z_dup (q := 36) dX1_firstRow_35 rfl rfl ?_
    refine z_get 0 16 (q := 39) (v := .int (h.I a0 16)) rfl (z_lt rfl) (z_L0_T g_1) q522 dX1_firstRow_36 rfl rfl ?_
    refine z_dup_x1 (q := 40) dX1_firstRow_39 rfl rfl rfl ?_
    refine z_iconst (q := 41) (v := 1) dX1_firstRow_40 rfl rfl ?_
    refine z_iadd (q := 42) dX1_firstRow_41 rfl ?_
    refine z_putI 0 16 (q := 45) (x := ((h.I a0 16) + 1)) (v := .int ((h.I a0 16) + 1)) rfl (z_lt rfl) (z_L0_T g_1) q522 rfl dX1_firstRow_42 rfl rfl rfl rfl (fun _ _ _ => rfl) ?_
    refine z_iload_n (q := 46) (i := 1) (x := x1) dX1_firstRow_45 rfl rfl rfl ?_
    obtain ⟨g_6, hf⟩ := hf
    refine z_iast (q := 47) (n := 24) (z_L0_A15 g_1) g_6 dX1_firstRow_46 rfl ?_
    refine z_iinc (q := 50) (i := 2) (x := x2) (v := (x2 + 1)) (ls2 := [some (.ref a0), some (.int x1), some (.int (x2 + 1))]) dX1_firstRow_47 rfl rfl (z_lt rfl) rfl rfl ?_
    refine z_goto (q := 17) dX1_firstRow_50 rfl ?_
    exact hf

theorem u_X1_games {l : Launch} {G : z_G} {a0 : Nat} {x1 : Int32} {x2 : Int32} {x3 : Int32} {h : z_H} {Q : z_Q} (hst : l.stackTraces = false)  (hf : z_Ct l G m_X1_in [.int x1, .int 0, .int 9999] h (z_Qi (fun x_1 h_2 => (x_1 = 0 → Q (some (.int (-1))) h_2) ∧ (¬ x_1 = 0 → z_Ct l G m_X1_in [.int x2, .int 1, .int 50] h_2 (z_Qi (fun x_3 h_4 => (x_3 = 0 → Q (some (.int (-1))) h_4) ∧ (¬ x_3 = 0 → z_Ct l G m_X1_in [.int x3, .int 0, .int 3] h_4 (z_Qi (fun x_5 h_6 => (x_5 = 0 → Q (some (.int (-1))) h_6) ∧ (¬ x_5 = 0 → z_L0 h_6 a0 ∧ ∃ b_8, (h_6.P a0 4) = some b_8 ∧ z_L8 h_6 b_8 ∧ z_Ct l G m_X10_cards [.ref b_8] h_6 (z_Qi (fun x_11 h_12 => (x_11 = 0 → Q (some (.int (-1))) h_12) ∧ (¬ x_11 = 0 → z_L0 h_12 a0 ∧ z_V l G m_X1_games (z_Fm G m_X1_games Q) 0 0 ((h_12.sL a0 21 (Int32.toInt64 x1)).nw (1, 4)) 59 [some (.ref a0), none, some (.int x2), some (.int x3), some (.ref (h_12.n)), some (.int 0), some (.int 0)] []))))))))))))) : z_Ct l G m_X1_games [.ref a0, .int x1, .int x2, .int x3] h Q := by
  refine z_Ct.of (ls := [some (.ref a0), some (.int x1), some (.int x2), some (.int x3), none, none, none]) hst rfl (by decide +kernel) (z_le rfl) rfl ?_
  show z_V l G m_X1_games (z_Fm G m_X1_games Q) 1 4 h 0 [some (.ref a0), some (.int x1), some (.int x2), some (.int x3), none, none, none] []
  refine z_iload_n (q := 1) (i := 1) (x := x1) dX1_games_0 rfl rfl rfl ?_
  refine z_iconst (q := 2) (v := 0) dX1_games_1 rfl rfl ?_
  refine z_sipush (q := 5) (v := 9999) dX1_games_2 (by decide) rfl ?_
  refine z_cSi m_X1_in [.int x1, .int 0, .int 9999] (q := 8) (rc2 := 1) (rs2 := 4) (st := []) dX1_games_5 rfl q1259 oS_X1_in rfl rfl ⟨z_le rfl, z_le rfl⟩ (z_le rfl) rfl  rfl hf (fun x_1 h_2 hf => ?_)
  refine z_if_eq (q := 11) (tgt := 40) dX1_games_8 rfl rfl (fun hc => ?_) (fun hc => ?_)
  · have hf := hf.1 hc
    refine z_iconst (q := 41) (v := (-1)) dX1_games_40 rfl rfl ?_
    exact z_iret dX1_games_41 rfl hf
  · have hf := hf.2 hc
    refine z_iload_n (q := 12) (i := 2) (x := x2) dX1_games_11 rfl rfl rfl ?_
    refine z_iconst (q := 13) (v := 1) dX1_games_12 rfl rfl ?_
    refine z_bipush (q := 15) (v := 50) dX1_games_13 (by decide) rfl ?_
    refine z_cSi m_X1_in [.int x2, .int 1, .int 50] (q := 18) (rc2 := 1) (rs2 := 4) (st := []) dX1_games_15 rfl q1259 oS_X1_in rfl rfl ⟨z_le rfl, z_le rfl⟩ (z_le rfl) rfl  rfl hf (fun x_3 h_4 hf => ?_)
    refine z_if_eq (q := 21) (tgt := 40) dX1_games_18 rfl rfl (fun hc => ?_) (fun hc => ?_)
    · have hf := hf.1 hc
      refine z_iconst (q := 41) (v := (-1)) dX1_games_40 rfl rfl ?_
      exact z_iret dX1_games_41 rfl hf
    · have hf := hf.2 hc
      refine z_iload_n (q := 22) (i := 3) (x := x3) dX1_games_21 rfl rfl rfl ?_
      refine z_iconst (q := 23) (v := 0) dX1_games_22 rfl rfl ?_
      refine z_iconst (q := 24) (v := 3) dX1_games_23 rfl rfl ?_
      refine z_cSi m_X1_in [.int x3, .int 0, .int 3] (q := 27) (rc2 := 1) (rs2 := 4) (st := []) dX1_games_24 rfl q1259 oS_X1_in rfl rfl ⟨z_le rfl, z_le rfl⟩ (z_le rfl) rfl  rfl hf (fun x_5 h_6 hf => ?_)
      refine z_if_eq (q := 30) (tgt := 40) dX1_games_27 rfl rfl (fun hc => ?_) (fun hc => ?_)
      · have hf := hf.1 hc
        refine z_iconst (q := 41) (v := (-1)) dX1_games_40 rfl rfl ?_
        exact z_iret dX1_games_41 rfl hf
      · have hf := hf.2 hc
        refine z_aload_n (q := 31) (i := 0) (x := a0) dX1_games_30 rfl rfl rfl ?_
        obtain ⟨g_7, hf⟩ := hf
        obtain ⟨b_8, g_9, hf⟩ := hf
        refine z_get 0 4 (q := 34) (v := .ref b_8) rfl (z_lt rfl) (z_L0_T g_7) q510 dX1_games_31 rfl (z_fvR (fun _ _ _ => rfl) g_9) ?_
        obtain ⟨g_10, hf⟩ := hf
        refine z_cVi m_X10_cards [] (b_8) (q := 37) (rc2 := 1) (rs2 := 4) (st := []) dX1_games_34 rfl q1621 oV_X10_cards rfl rfl ⟨z_le rfl, z_le rfl⟩ (z_le rfl) (z_rcv_of 8 rfl (z_L8_T g_10) rfl) rfl  rfl hf (fun x_11 h_12 hf => ?_)
        refine z_if_ne (q := 40) (tgt := 42) dX1_games_37 rfl rfl (fun hc => ?_) (fun hc => ?_)
        · have hf := hf.2 hc
          refine z_aload_n (q := 43) (i := 0) (x := a0) dX1_games_42 rfl rfl rfl ?_
          refine z_iload_n (q := 44) (i := 1) (x := x1) dX1_games_43 rfl rfl rfl ?_
          refine z_i2l (q := 45) dX1_games_44 rfl ?_
          obtain ⟨g_13, hf⟩ := hf
          refine z_putL 0 21 (q := 48) (x := (Int32.toInt64 x1)) (v := .long (Int32.toInt64 x1)) rfl (z_lt rfl) (z_L0_T g_13) q527 rfl dX1_games_45 rfl rfl rfl rfl (fun _ _ _ => rfl) ?_
          refine z_iconst (q := 49) (v := 4) dX1_games_48 rfl rfl ?_
          refine z_newa 1 (q := 51) (N := 4) (rc2 := 0) (rs2 := 0) (z_lt rfl) (z_lt rfl) rfl q295 (by decide) rfl (z_le rfl) dX1_games_49 rfl rfl rfl ?_
          refine z_astore (q := 53) (i := 4) (ls2 := [some (.ref a0), some (.int x1), some (.int x2), some (.int x3), some (.ref (h_12.n)), none, none]) (x := (h_12.n)) dX1_games_51 (z_lt rfl) rfl rfl ?_
          refine z_iconst (q := 54) (v := 0) dX1_games_53 rfl rfl ?_
          refine z_istore (q := 56) (i := 5) (ls2 := [some (.ref a0), some (.int x1), some (.int x2), some (.int x3), some (.ref (h_12.n)), some (.int 0), none]) (x := 0) dX1_games_54 (z_lt rfl) rfl rfl ?_
          refine z_iconst (q := 57) (v := 0) dX1_games_56 rfl rfl ?_
          refine z_istore (q := 59) (i := 6) (ls2 := [some (.ref a0), some (.int x1), some (.int x2), some (.int x3), some (.ref (h_12.n)), some (.int 0), some (.int 0)]) (x := 0) dX1_games_57 (z_lt rfl) rfl rfl ?_
          refine z_prune [true, false, true, true, true, true, true] (ls2 := [some (.ref a0), none, some (.int x2), some (.int x3), some (.ref (h_12.n)), some (.int 0), some (.int 0)]) rfl ?_
          exact hf
        · have hf := hf.1 hc
          refine z_iconst (q := 41) (v := (-1)) dX1_games_40 rfl rfl ?_
          exact z_iret dX1_games_41 rfl hf

theorem b_X1_games_59 {l : Launch} {G : z_G} {rc rs : Nat} {a0 : Nat} {x2 : Int32} {x3 : Int32} {a4 : Nat} {x5 : Int32} {x6 : Int32} {h : z_H} {Q : z_Q}  (hf : (x2 ≤ x6 → (3 ≤ x3 → Q (some (.int x5)) h) ∧ (¬ 3 ≤ x3 → ∃ n_4, h.T a4 = (1, n_4) ∧ vp_in x3 n_4 ∧ Q (some (.int (h.I a4 (Int32.toNatClampNeg x3)))) h)) ∧ (¬ x2 ≤ x6 → z_L0 h a0 ∧ z_Ct l G m_X1_shuffles [.ref a0] h (z_Qv (fun h_8 => z_L0 h_8 a0 ∧ ∃ b_10, (h_8.P a0 4) = some b_10 ∧ z_L8 h_8 b_10 ∧ z_Ct l G m_X10_first [.ref b_10] h_8 (z_Qi (fun x_13 h_14 => z_L0 h_14 a0 ∧ ∃ b_16, (h_14.P a0 4) = some b_16 ∧ z_L8 h_14 b_16 ∧ z_Ct l G m_X1_plays [.ref a0, .int x_13, .ref (b_16 + 3)] h_14 (z_Qv (fun h_19 => z_L0 h_19 a0 ∧ ∃ n_21, h_19.T a4 = (1, n_21) ∧ vp_in (h_19.I (a0 + 9) 7) n_21 ∧ vp_in (h_19.I (a0 + 9) 7) n_21 ∧ (2 ≤ ((h_19.sI a4 (Int32.toNatClampNeg (h_19.I (a0 + 9) 7)) ((h_19.I a4 (Int32.toNatClampNeg (h_19.I (a0 + 9) 7))) + 1)).I (a0 + 9) 7) → z_V l G m_X1_games (z_Fm G m_X1_games Q) rc rs (h_19.sI a4 (Int32.toNatClampNeg (h_19.I (a0 + 9) 7)) ((h_19.I a4 (Int32.toNatClampNeg (h_19.I (a0 + 9) 7))) + 1)) 59 [some (.ref a0), none, some (.int x2), some (.int x3), some (.ref a4), some (.int x5), some (.int (x6 + 1))] []) ∧ (¬ 2 ≤ ((h_19.sI a4 (Int32.toNatClampNeg (h_19.I (a0 + 9) 7)) ((h_19.I a4 (Int32.toNatClampNeg (h_19.I (a0 + 9) 7))) + 1)).I (a0 + 9) 7) → z_Ct l G m_J5_max [.int x5, .int ((h_19.sI a4 (Int32.toNatClampNeg (h_19.I (a0 + 9) 7)) ((h_19.I a4 (Int32.toNatClampNeg (h_19.I (a0 + 9) 7))) + 1)).I (a0 + 9) 8)] (h_19.sI a4 (Int32.toNatClampNeg (h_19.I (a0 + 9) 7)) ((h_19.I a4 (Int32.toNatClampNeg (h_19.I (a0 + 9) 7))) + 1)) (z_Qi (fun x_25 h_26 => z_V l G m_X1_games (z_Fm G m_X1_games Q) rc rs h_26 59 [some (.ref a0), none, some (.int x2), some (.int x3), some (.ref a4), some (.int x_25), some (.int (x6 + 1))] []))))))))))) : z_V l G m_X1_games (z_Fm G m_X1_games Q) rc rs h 59 [some (.ref a0), none, some (.int x2), some (.int x3), some (.ref a4), some (.int x5), some (.int x6)] [] := by
  refine z_iload (q := 61) (i := 6) (x := x6) dX1_games_59 rfl rfl ?_
  refine z_iload_n (q := 62) (i := 2) (x := x2) dX1_games_61 rfl rfl rfl ?_
  refine z_icmp_ge (q := 65) (tgt := 132) dX1_games_62 rfl rfl (fun hc => ?_) (fun hc => ?_)
  · have hf := hf.1 hc
    refine z_iload_n (q := 133) (i := 3) (x := x3) dX1_games_132 rfl rfl rfl ?_
    refine z_iconst (q := 134) (v := 3) dX1_games_133 rfl rfl ?_
    refine z_icmp_ge (q := 137) (tgt := 144) dX1_games_134 rfl rfl (fun hc => ?_) (fun hc => ?_)
    · have hf := hf.1 hc
      refine z_iload (q := 146) (i := 5) (x := x5) dX1_games_144 rfl rfl ?_
      exact z_iret dX1_games_146 rfl hf
    · have hf := hf.2 hc
      refine z_aload (q := 139) (i := 4) (x := a4) dX1_games_137 rfl rfl ?_
      refine z_iload_n (q := 140) (i := 3) (x := x3) dX1_games_139 rfl rfl rfl ?_
      obtain ⟨n_4, g_5, hf⟩ := hf
      obtain ⟨g_6, hf⟩ := hf
      refine z_iald (q := 141) (n := n_4) g_5 g_6 dX1_games_140 rfl ?_
      refine z_goto (q := 146) dX1_games_141 rfl ?_
      exact z_iret dX1_games_146 rfl hf
  · have hf := hf.2 hc
    refine z_aload_n (q := 66) (i := 0) (x := a0) dX1_games_65 rfl rfl rfl ?_
    obtain ⟨g_7, hf⟩ := hf
    refine z_cVv m_X1_shuffles [] (a0) (q := 69) (rc2 := rc) (rs2 := rs) (st := []) dX1_games_66 rfl q1622 oV_X1_shuffles rfl rfl ⟨z_le rfl, z_le rfl⟩ (z_le rfl) (z_rcv_of 0 rfl (z_L0_T g_7) rfl) rfl  rfl hf (fun h_8 hf => ?_)
    refine z_aload_n (q := 70) (i := 0) (x := a0) dX1_games_69 rfl rfl rfl ?_
    refine z_aload_n (q := 71) (i := 0) (x := a0) dX1_games_70 rfl rfl rfl ?_
    obtain ⟨g_9, hf⟩ := hf
    obtain ⟨b_10, g_11, hf⟩ := hf
    refine z_get 0 4 (q := 74) (v := .ref b_10) rfl (z_lt rfl) (z_L0_T g_9) q510 dX1_games_71 rfl (z_fvR (fun _ _ _ => rfl) g_11) ?_
    obtain ⟨g_12, hf⟩ := hf
    refine z_cVi m_X10_first [] (b_10) (q := 77) (rc2 := rc) (rs2 := rs) (st := [.ref a0]) dX1_games_74 rfl q1180 oV_X10_first rfl rfl ⟨z_le rfl, z_le rfl⟩ (z_le rfl) (z_rcv_of 8 rfl (z_L8_T g_12) rfl) rfl  rfl hf (fun x_13 h_14 hf => ?_)
    refine z_aload_n (q := 78) (i := 0) (x := a0) dX1_games_77 rfl rfl rfl ?_
    obtain ⟨g_15, hf⟩ := hf
    obtain ⟨b_16, g_17, hf⟩ := hf
    refine z_get 0 4 (q := 81) (v := .ref b_16) rfl (z_lt rfl) (z_L0_T g_15) q510 dX1_games_78 rfl (z_fvR (fun _ _ _ => rfl) g_17) ?_
    obtain ⟨g_18, hf⟩ := hf
    refine z_getN 8 1 (q := 84) (v := .ref (b_16 + 3)) rfl (z_lt rfl) (z_L8_T g_18) (z_nwm q334 rfl) dX1_games_81 rfl (z_fvR (fun _ _ _ => rfl) (z_L8_P1 g_18)) ?_
    refine z_cVv m_X1_plays [.int x_13, .ref (b_16 + 3)] (a0) (q := 87) (rc2 := rc) (rs2 := rs) (st := []) dX1_games_84 rfl q1457 oV_X1_plays rfl rfl ⟨z_le rfl, z_le rfl⟩ (z_le rfl) (z_rcv_of 0 rfl (z_L0_T g_15) rfl) rfl  rfl hf (fun h_19 hf => ?_)
    refine z_aload (q := 89) (i := 4) (x := a4) dX1_games_87 rfl rfl ?_
    refine z_aload_n (q := 90) (i := 0) (x := a0) dX1_games_89 rfl rfl rfl ?_
    obtain ⟨g_20, hf⟩ := hf
    refine z_get 0 3 (q := 93) (v := .ref (a0 + 9)) rfl (z_lt rfl) (z_L0_T g_20) q508 dX1_games_90 rfl (z_fvR (fun _ _ _ => rfl) (z_L0_P3 g_20)) ?_
    refine z_getN 7 7 (q := 96) (v := .int (h_19.I (a0 + 9) 7)) rfl (z_lt rfl) (z_L7_T (z_L0_N3 g_20)) (z_nwm q261 rfl) dX1_games_93 rfl rfl ?_
    refine z_dup2 (q := 97) dX1_games_96 rfl rfl rfl ?_
    obtain ⟨n_21, g_22, hf⟩ := hf
    obtain ⟨g_23, hf⟩ := hf
    refine z_iald (q := 98) (n := n_21) g_22 g_23 dX1_games_97 rfl ?_
    refine z_iconst (q := 99) (v := 1) dX1_games_98 rfl rfl ?_
    refine z_iadd (q := 100) dX1_games_99 rfl ?_
    obtain ⟨g_24, hf⟩ := hf
    refine z_iast (q := 101) (n := n_21) g_22 g_24 dX1_games_100 rfl ?_
    refine z_aload_n (q := 102) (i := 0) (x := a0) dX1_games_101 rfl rfl rfl ?_
    refine z_get 0 3 (q := 105) (v := .ref (a0 + 9)) rfl (z_lt rfl) (z_L0_T g_20) q508 dX1_games_102 rfl (z_fvR (fun _ _ _ => rfl) (z_L0_P3 g_20)) ?_
    refine z_getN 7 7 (q := 108) (v := .int ((h_19.sI a4 (Int32.toNatClampNeg (h_19.I (a0 + 9) 7)) ((h_19.I a4 (Int32.toNatClampNeg (h_19.I (a0 + 9) 7))) + 1)).I (a0 + 9) 7)) rfl (z_lt rfl) (z_L7_T (z_L0_N3 g_20)) (z_nwm q261 rfl) dX1_games_105 rfl rfl ?_
    refine z_iconst (q := 109) (v := 2) dX1_games_108 rfl rfl ?_
    refine z_icmp_ge (q := 112) (tgt := 126) dX1_games_109 rfl rfl (fun hc => ?_) (fun hc => ?_)
    · have hf := hf.1 hc
      refine z_iinc (q := 129) (i := 6) (x := x6) (v := (x6 + 1)) (ls2 := [some (.ref a0), none, some (.int x2), some (.int x3), some (.ref a4), some (.int x5), some (.int (x6 + 1))]) dX1_games_126 rfl rfl (z_lt rfl) rfl rfl ?_
      refine z_goto (q := 59) dX1_games_129 rfl ?_
      exact hf
    · have hf := hf.2 hc
      refine z_iload (q := 114) (i := 5) (x := x5) dX1_games_112 rfl rfl ?_
      refine z_aload_n (q := 115) (i := 0) (x := a0) dX1_games_114 rfl rfl rfl ?_
      refine z_get 0 3 (q := 118) (v := .ref (a0 + 9)) rfl (z_lt rfl) (z_L0_T g_20) q508 dX1_games_115 rfl (z_fvR (fun _ _ _ => rfl) (z_L0_P3 g_20)) ?_
      refine z_getN 7 8 (q := 121) (v := .int ((h_19.sI a4 (Int32.toNatClampNeg (h_19.I (a0 + 9) 7)) ((h_19.I a4 (Int32.toNatClampNeg (h_19.I (a0 + 9) 7))) + 1)).I (a0 + 9) 8)) rfl (z_lt rfl) (z_L7_T (z_L0_N3 g_20)) (z_nwm q263 rfl) dX1_games_118 rfl rfl ?_
      refine z_cSi m_J5_max [.int x5, .int ((h_19.sI a4 (Int32.toNatClampNeg (h_19.I (a0 + 9) 7)) ((h_19.I a4 (Int32.toNatClampNeg (h_19.I (a0 + 9) 7))) + 1)).I (a0 + 9) 8)] (q := 124) (rc2 := rc) (rs2 := rs) (st := []) dX1_games_121 rfl q1549 oS_J5_max rfl rfl ⟨z_le rfl, z_le rfl⟩ (z_le rfl) rfl  rfl hf (fun x_25 h_26 hf => ?_)
      refine z_istore (q := 126) (i := 5) (ls2 := [some (.ref a0), none, some (.int x2), some (.int x3), some (.ref a4), some (.int x_25), some (.int x6)]) (x := x_25) dX1_games_124 (z_lt rfl) rfl rfl ?_
      refine z_iinc (q := 129) (i := 6) (x := x6) (v := (x6 + 1)) (ls2 := [some (.ref a0), none, some (.int x2), some (.int x3), some (.ref a4), some (.int x_25), some (.int (x6 + 1))]) dX1_games_126 rfl rfl (z_lt rfl) rfl rfl ?_
      refine z_goto (q := 59) dX1_games_129 rfl ?_
      exact hf

theorem u_X1_gcd {l : Launch} {G : z_G} {d : Nat} {y0 : Int64} {y2 : Int64} {h : z_H} {Q : z_Q} (hst : l.stackTraces = false)  (hf : ((lg_cmp y2 0) = 0 → Q (some (.long y0)) h) ∧ (¬ (lg_cmp y2 0) = 0 → ¬ y2 = 0 ∧ z_Ct l G (m_X1_gcd d) [.long y2, .long (y0 - y0 / y2 * y2)] h (z_Ql (fun y_2 h_3 => Q (some (.long y_2)) h_3)))) : z_Ct l G (m_X1_gcd (d + 1)) [.long y0, .long y2] h Q := by
  refine z_Ct.of (ls := [some (.long y0), none, some (.long y2), none]) hst rfl (by decide +kernel) (z_le rfl) rfl ?_
  show z_V l G (m_X1_gcd (d + 1)) (z_Fm G (m_X1_gcd (d + 1)) Q) 0 0 h 0 [some (.long y0), none, some (.long y2), none] []
  refine z_lload_n (q := 1) (i := 2) (x := y2) dX1_gcd_0 rfl rfl rfl ?_
  refine z_lconst (q := 2) (v := 0) dX1_gcd_1 (by decide) rfl ?_
  refine z_lcmp (q := 3) dX1_gcd_2 rfl ?_
  refine z_if_ne (q := 6) (tgt := 10) dX1_gcd_3 rfl rfl (fun hc => ?_) (fun hc => ?_)
  · have hf := hf.2 hc
    refine z_lload_n (q := 11) (i := 2) (x := y2) dX1_gcd_10 rfl rfl rfl ?_
    refine z_lload_n (q := 12) (i := 0) (x := y0) dX1_gcd_11 rfl rfl rfl ?_
    refine z_lload_n (q := 13) (i := 2) (x := y2) dX1_gcd_12 rfl rfl rfl ?_
    obtain ⟨g_1, hf⟩ := hf
    refine z_lrem (q := 14) dX1_gcd_13 g_1 rfl ?_
    refine z_cSl (m_X1_gcd d) [.long y2, .long (y0 - y0 / y2 * y2)] (q := 17) (rc2 := 0) (rs2 := 0) (st := []) dX1_gcd_14 rfl q1508 oS_X1_gcd rfl rfl (z_room_of (by first | exact z_le rfl | (simp only [z_M.d, z_M.nL, z_M.lo, m_X1_gcd, m_X1_gcd]; omega)) (by first | exact z_le rfl | (simp only [z_M.d, z_M.nL, z_M.lo, m_X1_gcd, m_X1_gcd]; omega))) (z_le rfl) rfl  rfl hf (fun y_2 h_3 hf => ?_)
    exact z_lret dX1_gcd_17 rfl hf
  · have hf := hf.1 hc
    refine z_lload_n (q := 7) (i := 0) (x := y0) dX1_gcd_6 rfl rfl rfl ?_
    refine z_goto (q := 17) dX1_gcd_7 rfl ?_
    exact z_lret dX1_gcd_17 rfl hf

theorem u_X1_goesThrough {l : Launch} {G : z_G} {a0 : Nat} {h : z_H} {Q : z_Q} (hst : l.stackTraces = false)  (hf : z_L0 h a0 ∧ z_Ct l G m_X1_unseenOf [.ref a0, .int 0] h (z_Qi (fun x_2 h_3 => z_L0 h_3 a0 ∧ z_Ct l G m_X1_unseenOf [.ref a0, .int 1] h_3 (z_Qi (fun x_5 h_6 => z_L0 h_6 a0 ∧ ((x_2 + x_5) ≤ 10 → z_V l G m_X1_goesThrough (z_Fm G m_X1_goesThrough Q) 1 8 (h_6.sI a0 16 (x_2 + x_5)) 30 [some (.ref a0), some (.int 0), some (.int 0), none] []) ∧ (¬ (x_2 + x_5) ≤ 10 → Q (some (.int 0)) (h_6.sI a0 16 (x_2 + x_5)))))))) : z_Ct l G m_X1_goesThrough [.ref a0] h Q := by
  refine z_Ct.of (ls := [some (.ref a0), none, none, none]) hst rfl (by decide +kernel) (z_le rfl) rfl ?_
  show z_V l G m_X1_goesThrough (z_Fm G m_X1_goesThrough Q) 1 8 h 0 [some (.ref a0), none, none, none] []
  refine z_aload_n (q := 1) (i := 0) (x := a0) dX1_goesThrough_0 rfl rfl rfl ?_
  refine z_aload_n (q := 2) (i := 0) (x := a0) dX1_goesThrough_1 rfl rfl rfl ?_
  refine z_iconst (q := 3) (v := 0) dX1_goesThrough_2 rfl rfl ?_
  obtain ⟨g_1, hf⟩ := hf
  refine z_cVi m_X1_unseenOf [.int 0] (a0) (q := 6) (rc2 := 1) (rs2 := 8) (st := [.ref a0]) dX1_goesThrough_3 rfl q1515 oV_X1_unseenOf rfl rfl ⟨z_le rfl, z_le rfl⟩ (z_le rfl) (z_rcv_of 0 rfl (z_L0_T g_1) rfl) rfl  rfl hf (fun x_2 h_3 hf => ?_)
  refine z_aload_n (q := 7) (i := 0) (x := a0) dX1_goesThrough_6 rfl rfl rfl ?_
  refine z_iconst (q := 8) (v := 1) dX1_goesThrough_7 rfl rfl ?_
  obtain ⟨g_4, hf⟩ := hf
  refine z_cVi m_X1_unseenOf [.int 1] (a0) (q := 11) (rc2 := 1) (rs2 := 8) (st := [.int x_2, .ref a0]) dX1_goesThrough_8 rfl q1515 oV_X1_unseenOf rfl rfl ⟨z_le rfl, z_le rfl⟩ (z_le rfl) (z_rcv_of 0 rfl (z_L0_T g_4) rfl) rfl  rfl hf (fun x_5 h_6 hf => ?_)
  refine z_iadd (q := 12) dX1_goesThrough_11 rfl ?_
  obtain ⟨g_7, hf⟩ := hf
  refine z_putI 0 16 (q := 15) (x := (x_2 + x_5)) (v := .int (x_2 + x_5)) rfl (z_lt rfl) (z_L0_T g_7) q522 rfl dX1_goesThrough_12 rfl rfl rfl rfl (fun _ _ _ => rfl) ?_
  refine z_aload_n (q := 16) (i := 0) (x := a0) dX1_goesThrough_15 rfl rfl rfl ?_
  refine z_get 0 16 (q := 19) (v := .int (x_2 + x_5)) rfl (z_lt rfl) (z_L0_T g_7) q522 dX1_goesThrough_16 rfl (congrArg Value.int z_rIs) ?_
  refine z_bipush (q := 21) (v := 10) dX1_goesThrough_19 (by decide) rfl ?_
  refine z_icmp_le (q := 24) (tgt := 26) dX1_goesThrough_21 rfl rfl (fun hc => ?_) (fun hc => ?_)
  · have hf := hf.1 hc
    refine z_iconst (q := 27) (v := 0) dX1_goesThrough_26 rfl rfl ?_
    refine z_istore_n (q := 28) (i := 1) (ls2 := [some (.ref a0), some (.int 0), none, none]) (x := 0) dX1_goesThrough_27 rfl (z_lt rfl) rfl rfl ?_
    refine z_iconst (q := 29) (v := 0) dX1_goesThrough_28 rfl rfl ?_
    refine z_istore_n (q := 30) (i := 2) (ls2 := [some (.ref a0), some (.int 0), some (.int 0), none]) (x := 0) dX1_goesThrough_29 rfl (z_lt rfl) rfl rfl ?_
    exact hf
  · have hf := hf.2 hc
    refine z_iconst (q := 25) (v := 0) dX1_goesThrough_24 rfl rfl ?_
    exact z_zret dX1_goesThrough_25 rfl (z_nb01 z_b0) hf

theorem b_X1_goesThrough_30 {l : Launch} {G : z_G} {rc rs : Nat} {a0 : Nat} {x1 : Int32} {x2 : Int32} {h : z_H} {Q : z_Q}  (hf : z_L0 h a0 ∧ z_Ct l G m_X1_kinds [.ref a0] h (z_Qi (fun x_2 h_3 => (x_2 ≤ x2 → ∃ rc_4, rc = rc_4 + 1 ∧ ∃ rs_6, rs = rs_6 + 8 ∧ z_L0 h_3 a0 ∧ z_Ct l G m_X1_rows [.ref a0] h_3 (z_Qi (fun x_9 h_10 => (x_9 ≤ 20000 → z_V l G m_X1_goesThrough (z_Fm G m_X1_goesThrough Q) rc_4 rs_6 h_10 166 [some (.ref a0), none, some (.int 0), none] []) ∧ (¬ x_9 ≤ 20000 → Q (some (.int 0)) h_10)))) ∧ (¬ x_2 ≤ x2 → z_V l G m_X1_goesThrough (z_Fm G m_X1_goesThrough Q) rc rs h_3 40 [some (.ref a0), some (.int x1), some (.int x2), some (.int 0)] [])))) : z_V l G m_X1_goesThrough (z_Fm G m_X1_goesThrough Q) rc rs h 30 [some (.ref a0), some (.int x1), some (.int x2), none] [] := by
  refine z_iload_n (q := 31) (i := 2) (x := x2) dX1_goesThrough_30 rfl rfl rfl ?_
  refine z_aload_n (q := 32) (i := 0) (x := a0) dX1_goesThrough_31 rfl rfl rfl ?_
  obtain ⟨g_1, hf⟩ := hf
  refine z_cVi m_X1_kinds [] (a0) (q := 35) (rc2 := rc) (rs2 := rs) (st := [.int x2]) dX1_goesThrough_32 rfl q1254 oV_X1_kinds rfl rfl ⟨z_le rfl, z_le rfl⟩ (z_le rfl) (z_rcv_of 0 rfl (z_L0_T g_1) rfl) rfl  rfl hf (fun x_2 h_3 hf => ?_)
  refine z_icmp_ge (q := 38) (tgt := 152) dX1_goesThrough_35 rfl rfl (fun hc => ?_) (fun hc => ?_)
  · have hf := hf.1 hc
    refine z_aload_n (q := 153) (i := 0) (x := a0) dX1_goesThrough_152 rfl rfl rfl ?_
    obtain ⟨rc_4, g_5, hf⟩ := hf
    obtain ⟨rs_6, g_7, hf⟩ := hf
    obtain ⟨g_8, hf⟩ := hf
    refine z_cVi m_X1_rows [] (a0) (q := 156) (rc2 := rc_4) (rs2 := rs_6) (st := []) dX1_goesThrough_153 rfl q1453 oV_X1_rows rfl rfl ⟨z_le rfl, z_le rfl⟩ (z_le rfl) (z_rcv_of 0 rfl (z_L0_T g_8) rfl) g_5  g_7 hf (fun x_9 h_10 hf => ?_)
    refine z_sipush (q := 159) (v := 20000) dX1_goesThrough_156 (by decide) rfl ?_
    refine z_icmp_le (q := 162) (tgt := 164) dX1_goesThrough_159 rfl rfl (fun hc => ?_) (fun hc => ?_)
    · have hf := hf.1 hc
      refine z_iconst (q := 165) (v := 0) dX1_goesThrough_164 rfl rfl ?_
      refine z_istore_n (q := 166) (i := 2) (ls2 := [some (.ref a0), some (.int x1), some (.int 0), none]) (x := 0) dX1_goesThrough_165 rfl (z_lt rfl) rfl rfl ?_
      refine z_prune [true, false, true, false] (ls2 := [some (.ref a0), none, some (.int 0), none]) rfl ?_
      exact hf
    · have hf := hf.2 hc
      refine z_iconst (q := 163) (v := 0) dX1_goesThrough_162 rfl rfl ?_
      exact z_zret dX1_goesThrough_163 rfl (z_nb01 z_b0) hf
  · have hf := hf.2 hc
    refine z_iconst (q := 39) (v := 0) dX1_goesThrough_38 rfl rfl ?_
    refine z_istore_n (q := 40) (i := 3) (ls2 := [some (.ref a0), some (.int x1), some (.int x2), some (.int 0)]) (x := 0) dX1_goesThrough_39 rfl (z_lt rfl) rfl rfl ?_
    exact hf

theorem b_X1_goesThrough_166 {l : Launch} {G : z_G} {rc rs : Nat} {a0 : Nat} {x2 : Int32} {h : z_H} {Q : z_Q}  (hf : z_L0 h a0 ∧ (4 ≤ x2 → z_V l G m_X1_goesThrough (z_Fm G m_X1_goesThrough Q) rc rs h 188 [some (.ref a0), none, none, none] []) ∧ (¬ 4 ≤ x2 → vp_in x2 4 ∧ z_V l G m_X1_goesThrough (z_Fm G m_X1_goesThrough Q) rc rs (h.sI (a0 + 56) (Int32.toNatClampNeg x2) 0) 166 [some (.ref a0), none, some (.int (x2 + 1)), none] [])) : z_V l G m_X1_goesThrough (z_Fm G m_X1_goesThrough Q) rc rs h 166 [some (.ref a0), none, some (.int x2), none] [] := by
  refine z_iload_n (q := 167) (i := 2) (x := x2) dX1_goesThrough_166 rfl rfl rfl ?_
  refine z_aload_n (q := 168) (i := 0) (x := a0) dX1_goesThrough_167 rfl rfl rfl ?_
  obtain ⟨g_1, hf⟩ := hf
  refine z_get 0 17 (q := 171) (v := .ref (a0 + 56)) rfl (z_lt rfl) (z_L0_T g_1) q523 dX1_goesThrough_168 rfl (z_fvR (fun _ _ _ => rfl) (z_L0_P17 g_1)) ?_
  refine z_alen (q := 172) (v := 4) (n := 4) (z_L0_A17 g_1) (by decide) rfl dX1_goesThrough_171 rfl ?_
  refine z_icmp_ge (q := 175) (tgt := 188) dX1_goesThrough_172 rfl rfl (fun hc => ?_) (fun hc => ?_)
  · have hf := hf.1 hc
    refine z_prune [true, false, false, false] (ls2 := [some (.ref a0), none, none, none]) rfl ?_
    exact hf
  · have hf := hf.2 hc
    refine z_aload_n (q := 176) (i := 0) (x := a0) dX1_goesThrough_175 rfl rfl rfl ?_
    refine z_get 0 17 (q := 179) (v := .ref (a0 + 56)) rfl (z_lt rfl) (z_L0_T g_1) q523 dX1_goesThrough_176 rfl (z_fvR (fun _ _ _ => rfl) (z_L0_P17 g_1)) ?_
    refine z_iload_n (q := 180) (i := 2) (x := x2) dX1_goesThrough_179 rfl rfl rfl ?_
    refine z_iconst (q := 181) (v := 0) dX1_goesThrough_180 rfl rfl ?_
    obtain ⟨g_2, hf⟩ := hf
    refine z_iast (q := 182) (n := 4) (z_L0_A17 g_1) g_2 dX1_goesThrough_181 rfl ?_
    refine z_iinc (q := 185) (i := 2) (x := x2) (v := (x2 + 1)) (ls2 := [some (.ref a0), none, some (.int (x2 + 1)), none]) dX1_goesThrough_182 rfl rfl (z_lt rfl) rfl rfl ?_
    refine z_goto (q := 166) dX1_goesThrough_185 rfl ?_
    exact hf

theorem b_X1_goesThrough_40 {l : Launch} {G : z_G} {rc rs : Nat} {a0 : Nat} {x1 : Int32} {x2 : Int32} {x3 : Int32} {h : z_H} {Q : z_Q}  (hf : z_L0 h a0 ∧ ((h.I (a0 + 23) 6) ≤ x3 → z_V l G m_X1_goesThrough (z_Fm G m_X1_goesThrough Q) rc rs h 94 [some (.ref a0), some (.int x1), some (.int x2), some (.int 0)] []) ∧ (¬ (h.I (a0 + 23) 6) ≤ x3 → vp_in x3 48 ∧ ((h.I (a0 + 28) (Int32.toNatClampNeg x3)) = 0 → z_V l G m_X1_goesThrough (z_Fm G m_X1_goesThrough Q) rc rs h 40 [some (.ref a0), some (.int x1), some (.int x2), some (.int (x3 + 1))] []) ∧ (¬ (h.I (a0 + 28) (Int32.toNatClampNeg x3)) = 0 → vp_in x3 48 ∧ ((h.I (a0 + 24) (Int32.toNatClampNeg x3)) = x2 → vp_in x1 24 ∧ z_V l G m_X1_goesThrough (z_Fm G m_X1_goesThrough Q) rc rs (h.sI (a0 + 55) (Int32.toNatClampNeg x1) x2) 40 [some (.ref a0), some (.int (x1 + 1)), some (.int x2), some (.int (x3 + 1))] []) ∧ (¬ (h.I (a0 + 24) (Int32.toNatClampNeg x3)) = x2 → z_V l G m_X1_goesThrough (z_Fm G m_X1_goesThrough Q) rc rs h 40 [some (.ref a0), some (.int x1), some (.int x2), some (.int (x3 + 1))] [])))) : z_V l G m_X1_goesThrough (z_Fm G m_X1_goesThrough Q) rc rs h 40 [some (.ref a0), some (.int x1), some (.int x2), some (.int x3)] [] := by
  refine z_iload_n (q := 41) (i := 3) (x := x3) dX1_goesThrough_40 rfl rfl rfl ?_
  refine z_aload_n (q := 42) (i := 0) (x := a0) dX1_goesThrough_41 rfl rfl rfl ?_
  obtain ⟨g_1, hf⟩ := hf
  refine z_get 0 6 (q := 45) (v := .ref (a0 + 23)) rfl (z_lt rfl) (z_L0_T g_1) q512 dX1_goesThrough_42 rfl (z_fvR (fun _ _ _ => rfl) (z_L0_P6 g_1)) ?_
  refine z_getN 9 6 (q := 48) (v := .int (h.I (a0 + 23) 6)) rfl (z_lt rfl) (z_L9_T (z_L0_N6 g_1)) (z_nwm q387 rfl) dX1_goesThrough_45 rfl rfl ?_
  refine z_icmp_ge (q := 51) (tgt := 92) dX1_goesThrough_48 rfl rfl (fun hc => ?_) (fun hc => ?_)
  · have hf := hf.1 hc
    refine z_iconst (q := 93) (v := 0) dX1_goesThrough_92 rfl rfl ?_
    refine z_istore_n (q := 94) (i := 3) (ls2 := [some (.ref a0), some (.int x1), some (.int x2), some (.int 0)]) (x := 0) dX1_goesThrough_93 rfl (z_lt rfl) rfl rfl ?_
    exact hf
  · have hf := hf.2 hc
    refine z_aload_n (q := 52) (i := 0) (x := a0) dX1_goesThrough_51 rfl rfl rfl ?_
    refine z_get 0 6 (q := 55) (v := .ref (a0 + 23)) rfl (z_lt rfl) (z_L0_T g_1) q512 dX1_goesThrough_52 rfl (z_fvR (fun _ _ _ => rfl) (z_L0_P6 g_1)) ?_
    refine z_getN 9 4 (q := 58) (v := .ref (a0 + 28)) rfl (z_lt rfl) (z_L9_T (z_L0_N6 g_1)) (z_nwm q382 rfl) dX1_goesThrough_55 rfl (z_fvR (fun _ _ _ => rfl) (z_L9_P4 (z_L0_N6 g_1))) ?_
    refine z_iload_n (q := 59) (i := 3) (x := x3) dX1_goesThrough_58 rfl rfl rfl ?_
    obtain ⟨g_2, hf⟩ := hf
    refine z_zald (q := 60) (n := 48) (z_L9_A4 (z_L0_N6 g_1)) g_2 dX1_goesThrough_59 rfl ?_
    refine z_if_eq (q := 63) (tgt := 86) dX1_goesThrough_60 rfl rfl (fun hc => ?_) (fun hc => ?_)
    · have hf := hf.1 hc
      refine z_iinc (q := 89) (i := 3) (x := x3) (v := (x3 + 1)) (ls2 := [some (.ref a0), some (.int x1), some (.int x2), some (.int (x3 + 1))]) dX1_goesThrough_86 rfl rfl (z_lt rfl) rfl rfl ?_
      refine z_goto (q := 40) dX1_goesThrough_89 rfl ?_
      exact hf
    · have hf := hf.2 hc
      refine z_aload_n (q := 64) (i := 0) (x := a0) dX1_goesThrough_63 rfl rfl rfl ?_
      refine z_get 0 6 (q := 67) (v := .ref (a0 + 23)) rfl (z_lt rfl) (z_L0_T g_1) q512 dX1_goesThrough_64 rfl (z_fvR (fun _ _ _ => rfl) (z_L0_P6 g_1)) ?_
      refine z_getN 9 0 (q := 70) (v := .ref (a0 + 24)) rfl (z_lt rfl) (z_L9_T (z_L0_N6 g_1)) (z_nwm q374 rfl) dX1_goesThrough_67 rfl (z_fvR (fun _ _ _ => rfl) (z_L9_P0 (z_L0_N6 g_1))) ?_
      refine z_iload_n (q := 71) (i := 3) (x := x3) dX1_goesThrough_70 rfl rfl rfl ?_
      obtain ⟨g_3, hf⟩ := hf
      refine z_iald (q := 72) (n := 48) (z_L9_A0 (z_L0_N6 g_1)) g_3 dX1_goesThrough_71 rfl ?_
      refine z_iload_n (q := 73) (i := 2) (x := x2) dX1_goesThrough_72 rfl rfl rfl ?_
      refine z_icmp_ne (q := 76) (tgt := 86) dX1_goesThrough_73 rfl rfl (fun hc => ?_) (fun hc => ?_)
      · have hf := hf.2 hc
        refine z_iinc (q := 89) (i := 3) (x := x3) (v := (x3 + 1)) (ls2 := [some (.ref a0), some (.int x1), some (.int x2), some (.int (x3 + 1))]) dX1_goesThrough_86 rfl rfl (z_lt rfl) rfl rfl ?_
        refine z_goto (q := 40) dX1_goesThrough_89 rfl ?_
        exact hf
      · have hf := hf.1 hc
        refine z_aload_n (q := 77) (i := 0) (x := a0) dX1_goesThrough_76 rfl rfl rfl ?_
        refine z_get 0 15 (q := 80) (v := .ref (a0 + 55)) rfl (z_lt rfl) (z_L0_T g_1) q521 dX1_goesThrough_77 rfl (z_fvR (fun _ _ _ => rfl) (z_L0_P15 g_1)) ?_
        refine z_iload_n (q := 81) (i := 1) (x := x1) dX1_goesThrough_80 rfl rfl rfl ?_
        refine z_iinc (q := 84) (i := 1) (x := x1) (v := (x1 + 1)) (ls2 := [some (.ref a0), some (.int (x1 + 1)), some (.int x2), some (.int x3)]) dX1_goesThrough_81 rfl rfl (z_lt rfl) rfl rfl ?_
        refine z_iload_n (q := 85) (i := 2) (x := x2) dX1_goesThrough_84 rfl rfl rfl ?_
        obtain ⟨g_4, hf⟩ := hf
        refine z_iast (q := 86) (n := 24) (z_L0_A15 g_1) g_4 dX1_goesThrough_85 rfl ?_
        refine z_iinc (q := 89) (i := 3) (x := x3) (v := (x3 + 1)) (ls2 := [some (.ref a0), some (.int (x1 + 1)), some (.int x2), some (.int (x3 + 1))]) dX1_goesThrough_86 rfl rfl (z_lt rfl) rfl rfl ?_
        refine z_goto (q := 40) dX1_goesThrough_89 rfl ?_
        exact hf

theorem b_X1_goesThrough_188 {l : Launch} {G : z_G} {rc rs : Nat} {a0 : Nat} {h : z_H} {Q : z_Q}  (hf : z_L0 h a0 ∧ z_Ct l G m_X11_be [.ref (a0 + 36), .ref (a0 + 23)] h (z_Qv (fun h_2 => z_V l G m_X1_goesThrough (z_Fm G m_X1_goesThrough Q) rc rs h_2 203 [some (.ref a0), none, some (.int 0), some (.int 0)] []))) : z_V l G m_X1_goesThrough (z_Fm G m_X1_goesThrough Q) rc rs h 188 [some (.ref a0), none, none, none] [] := by
  refine z_aload_n (q := 189) (i := 0) (x := a0) dX1_goesThrough_188 rfl rfl rfl ?_
  obtain ⟨g_1, hf⟩ := hf
  refine z_get 0 7 (q := 192) (v := .ref (a0 + 36)) rfl (z_lt rfl) (z_L0_T g_1) q513 dX1_goesThrough_189 rfl (z_fvR (fun _ _ _ => rfl) (z_L0_P7 g_1)) ?_
  refine z_aload_n (q := 193) (i := 0) (x := a0) dX1_goesThrough_192 rfl rfl rfl ?_
  refine z_get 0 6 (q := 196) (v := .ref (a0 + 23)) rfl (z_lt rfl) (z_L0_T g_1) q512 dX1_goesThrough_193 rfl (z_fvR (fun _ _ _ => rfl) (z_L0_P6 g_1)) ?_
  refine z_cVv m_X11_be [.ref (a0 + 23)] ((a0 + 36)) (q := 199) (rc2 := rc) (rs2 := rs) (st := []) dX1_goesThrough_196 rfl q1414 oV_X11_be rfl rfl ⟨z_le rfl, z_le rfl⟩ (z_le rfl) (z_rcv_of 9 rfl (z_L9_T (z_L0_N7 g_1)) rfl) rfl  rfl hf (fun h_2 hf => ?_)
  refine z_iconst (q := 200) (v := 0) dX1_goesThrough_199 rfl rfl ?_
  refine z_istore_n (q := 201) (i := 2) (ls2 := [some (.ref a0), none, some (.int 0), none]) (x := 0) dX1_goesThrough_200 rfl (z_lt rfl) rfl rfl ?_
  refine z_iconst (q := 202) (v := 0) dX1_goesThrough_201 rfl rfl ?_
  refine z_istore_n (q := 203) (i := 3) (ls2 := [some (.ref a0), none, some (.int 0), some (.int 0)]) (x := 0) dX1_goesThrough_202 rfl (z_lt rfl) rfl rfl ?_
  exact hf

theorem b_X1_goesThrough_94 {l : Launch} {G : z_G} {rc rs : Nat} {a0 : Nat} {x1 : Int32} {x2 : Int32} {x3 : Int32} {h : z_H} {Q : z_Q}  (hf : z_L0 h a0 ∧ ((h.I (a0 + 23) 7) ≤ x3 → z_V l G m_X1_goesThrough (z_Fm G m_X1_goesThrough Q) rc rs h 30 [some (.ref a0), some (.int x1), some (.int (x2 + 1)), none] []) ∧ (¬ (h.I (a0 + 23) 7) ≤ x3 → vp_in x3 48 ∧ ((h.I (a0 + 29) (Int32.toNatClampNeg x3)) = 0 → z_V l G m_X1_goesThrough (z_Fm G m_X1_goesThrough Q) rc rs h 94 [some (.ref a0), some (.int x1), some (.int x2), some (.int (x3 + 1))] []) ∧ (¬ (h.I (a0 + 29) (Int32.toNatClampNeg x3)) = 0 → vp_in x3 48 ∧ ((h.I (a0 + 25) (Int32.toNatClampNeg x3)) = x2 → vp_in x1 24 ∧ z_V l G m_X1_goesThrough (z_Fm G m_X1_goesThrough Q) rc rs (h.sI (a0 + 55) (Int32.toNatClampNeg x1) x2) 94 [some (.ref a0), some (.int (x1 + 1)), some (.int x2), some (.int (x3 + 1))] []) ∧ (¬ (h.I (a0 + 25) (Int32.toNatClampNeg x3)) = x2 → z_V l G m_X1_goesThrough (z_Fm G m_X1_goesThrough Q) rc rs h 94 [some (.ref a0), some (.int x1), some (.int x2), some (.int (x3 + 1))] [])))) : z_V l G m_X1_goesThrough (z_Fm G m_X1_goesThrough Q) rc rs h 94 [some (.ref a0), some (.int x1), some (.int x2), some (.int x3)] [] := by
  refine z_iload_n (q := 95) (i := 3) (x := x3) dX1_goesThrough_94 rfl rfl rfl ?_
  refine z_aload_n (q := 96) (i := 0) (x := a0) dX1_goesThrough_95 rfl rfl rfl ?_
  obtain ⟨g_1, hf⟩ := hf
  refine z_get 0 6 (q := 99) (v := .ref (a0 + 23)) rfl (z_lt rfl) (z_L0_T g_1) q512 dX1_goesThrough_96 rfl (z_fvR (fun _ _ _ => rfl) (z_L0_P6 g_1)) ?_
  refine z_getN 9 7 (q := 102) (v := .int (h.I (a0 + 23) 7)) rfl (z_lt rfl) (z_L9_T (z_L0_N6 g_1)) (z_nwm q390 rfl) dX1_goesThrough_99 rfl rfl ?_
  refine z_icmp_ge (q := 105) (tgt := 146) dX1_goesThrough_102 rfl rfl (fun hc => ?_) (fun hc => ?_)
  · have hf := hf.1 hc
    refine z_iinc (q := 149) (i := 2) (x := x2) (v := (x2 + 1)) (ls2 := [some (.ref a0), some (.int x1), some (.int (x2 + 1)), some (.int x3)]) dX1_goesThrough_146 rfl rfl (z_lt rfl) rfl rfl ?_
    refine z_goto (q := 30) dX1_goesThrough_149 rfl ?_
    refine z_prune [true, true, true, false] (ls2 := [some (.ref a0), some (.int x1), some (.int (x2 + 1)), none]) rfl ?_
    exact hf
  · have hf := hf.2 hc
    refine z_aload_n (q := 106) (i := 0) (x := a0) dX1_goesThrough_105 rfl rfl rfl ?_
    refine z_get 0 6 (q := 109) (v := .ref (a0 + 23)) rfl (z_lt rfl) (z_L0_T g_1) q512 dX1_goesThrough_106 rfl (z_fvR (fun _ _ _ => rfl) (z_L0_P6 g_1)) ?_
    refine z_getN 9 5 (q := 112) (v := .ref (a0 + 29)) rfl (z_lt rfl) (z_L9_T (z_L0_N6 g_1)) (z_nwm q384 rfl) dX1_goesThrough_109 rfl (z_fvR (fun _ _ _ => rfl) (z_L9_P5 (z_L0_N6 g_1))) ?_
    refine z_iload_n (q := 113) (i := 3) (x := x3) dX1_goesThrough_112 rfl rfl rfl ?_
    obtain ⟨g_2, hf⟩ := hf
    refine z_zald (q := 114) (n := 48) (z_L9_A5 (z_L0_N6 g_1)) g_2 dX1_goesThrough_113 rfl ?_
    refine z_if_eq (q := 117) (tgt := 140) dX1_goesThrough_114 rfl rfl (fun hc => ?_) (fun hc => ?_)
    · have hf := hf.1 hc
      refine z_iinc (q := 143) (i := 3) (x := x3) (v := (x3 + 1)) (ls2 := [some (.ref a0), some (.int x1), some (.int x2), some (.int (x3 + 1))]) dX1_goesThrough_140 rfl rfl (z_lt rfl) rfl rfl ?_
      refine z_goto (q := 94) dX1_goesThrough_143 rfl ?_
      exact hf
    · have hf := hf.2 hc
      refine z_aload_n (q := 118) (i := 0) (x := a0) dX1_goesThrough_117 rfl rfl rfl ?_
      refine z_get 0 6 (q := 121) (v := .ref (a0 + 23)) rfl (z_lt rfl) (z_L0_T g_1) q512 dX1_goesThrough_118 rfl (z_fvR (fun _ _ _ => rfl) (z_L0_P6 g_1)) ?_
      refine z_getN 9 1 (q := 124) (v := .ref (a0 + 25)) rfl (z_lt rfl) (z_L9_T (z_L0_N6 g_1)) (z_nwm q377 rfl) dX1_goesThrough_121 rfl (z_fvR (fun _ _ _ => rfl) (z_L9_P1 (z_L0_N6 g_1))) ?_
      refine z_iload_n (q := 125) (i := 3) (x := x3) dX1_goesThrough_124 rfl rfl rfl ?_
      obtain ⟨g_3, hf⟩ := hf
      refine z_iald (q := 126) (n := 48) (z_L9_A1 (z_L0_N6 g_1)) g_3 dX1_goesThrough_125 rfl ?_
      refine z_iload_n (q := 127) (i := 2) (x := x2) dX1_goesThrough_126 rfl rfl rfl ?_
      refine z_icmp_ne (q := 130) (tgt := 140) dX1_goesThrough_127 rfl rfl (fun hc => ?_) (fun hc => ?_)
      · have hf := hf.2 hc
        refine z_iinc (q := 143) (i := 3) (x := x3) (v := (x3 + 1)) (ls2 := [some (.ref a0), some (.int x1), some (.int x2), some (.int (x3 + 1))]) dX1_goesThrough_140 rfl rfl (z_lt rfl) rfl rfl ?_
        refine z_goto (q := 94) dX1_goesThrough_143 rfl ?_
        exact hf
      · have hf := hf.1 hc
        refine z_aload_n (q := 131) (i := 0) (x := a0) dX1_goesThrough_130 rfl rfl rfl ?_
        refine z_get 0 15 (q := 134) (v := .ref (a0 + 55)) rfl (z_lt rfl) (z_L0_T g_1) q521 dX1_goesThrough_131 rfl (z_fvR (fun _ _ _ => rfl) (z_L0_P15 g_1)) ?_
        refine z_iload_n (q := 135) (i := 1) (x := x1) dX1_goesThrough_134 rfl rfl rfl ?_
        refine z_iinc (q := 138) (i := 1) (x := x1) (v := (x1 + 1)) (ls2 := [some (.ref a0), some (.int (x1 + 1)), some (.int x2), some (.int x3)]) dX1_goesThrough_135 rfl rfl (z_lt rfl) rfl rfl ?_
        refine z_iload_n (q := 139) (i := 2) (x := x2) dX1_goesThrough_138 rfl rfl rfl ?_
        obtain ⟨g_4, hf⟩ := hf
        refine z_iast (q := 140) (n := 24) (z_L0_A15 g_1) g_4 dX1_goesThrough_139 rfl ?_
        refine z_iinc (q := 143) (i := 3) (x := x3) (v := (x3 + 1)) (ls2 := [some (.ref a0), some (.int (x1 + 1)), some (.int x2), some (.int (x3 + 1))]) dX1_goesThrough_140 rfl rfl (z_lt rfl) rfl rfl ?_
        refine z_goto (q := 94) dX1_goesThrough_143 rfl ?_
        exact hf

theorem b_X1_goesThrough_203 {l : Launch} {G : z_G} {rc rs : Nat} {a0 : Nat} {x2 : Int32} {x3 : Int32} {h : z_H} {Q : z_Q}  (hf : z_L0 h a0 ∧ ((h.I (a0 + 23) 6) ≤ x3 → z_V l G m_X1_goesThrough (z_Fm G m_X1_goesThrough Q) rc rs h 252 [some (.ref a0), none, some (.int x2), some (.int 0)] []) ∧ (¬ (h.I (a0 + 23) 6) ≤ x3 → vp_in x3 48 ∧ ((h.I (a0 + 28) (Int32.toNatClampNeg x3)) = 0 → z_V l G m_X1_goesThrough (z_Fm G m_X1_goesThrough Q) rc rs h 203 [some (.ref a0), none, some (.int x2), some (.int (x3 + 1))] []) ∧ (¬ (h.I (a0 + 28) (Int32.toNatClampNeg x3)) = 0 → vp_in x2 24 ∧ vp_in x3 48 ∧ z_V l G m_X1_goesThrough (z_Fm G m_X1_goesThrough Q) rc rs (h.sI (a0 + 37) (Int32.toNatClampNeg x3) (h.I (a0 + 55) (Int32.toNatClampNeg x2))) 203 [some (.ref a0), none, some (.int (x2 + 1)), some (.int (x3 + 1))] []))) : z_V l G m_X1_goesThrough (z_Fm G m_X1_goesThrough Q) rc rs h 203 [some (.ref a0), none, some (.int x2), some (.int x3)] [] := by
  refine z_iload_n (q := 204) (i := 3) (x := x3) dX1_goesThrough_203 rfl rfl rfl ?_
  refine z_aload_n (q := 205) (i := 0) (x := a0) dX1_goesThrough_204 rfl rfl rfl ?_
  obtain ⟨g_1, hf⟩ := hf
  refine z_get 0 6 (q := 208) (v := .ref (a0 + 23)) rfl (z_lt rfl) (z_L0_T g_1) q512 dX1_goesThrough_205 rfl (z_fvR (fun _ _ _ => rfl) (z_L0_P6 g_1)) ?_
  refine z_getN 9 6 (q := 211) (v := .int (h.I (a0 + 23) 6)) rfl (z_lt rfl) (z_L9_T (z_L0_N6 g_1)) (z_nwm q387 rfl) dX1_goesThrough_208 rfl rfl ?_
  refine z_icmp_ge (q := 214) (tgt := 250) dX1_goesThrough_211 rfl rfl (fun hc => ?_) (fun hc => ?_)
  · have hf := hf.1 hc
    refine z_iconst (q := 251) (v := 0) dX1_goesThrough_250 rfl rfl ?_
    refine z_istore_n (q := 252) (i := 3) (ls2 := [some (.ref a0), none, some (.int x2), some (.int 0)]) (x := 0) dX1_goesThrough_251 rfl (z_lt rfl) rfl rfl ?_
    exact hf
  · have hf := hf.2 hc
    refine z_aload_n (q := 215) (i := 0) (x := a0) dX1_goesThrough_214 rfl rfl rfl ?_
    refine z_get 0 6 (q := 218) (v := .ref (a0 + 23)) rfl (z_lt rfl) (z_L0_T g_1) q512 dX1_goesThrough_215 rfl (z_fvR (fun _ _ _ => rfl) (z_L0_P6 g_1)) ?_
    refine z_getN 9 4 (q := 221) (v := .ref (a0 + 28)) rfl (z_lt rfl) (z_L9_T (z_L0_N6 g_1)) (z_nwm q382 rfl) dX1_goesThrough_218 rfl (z_fvR (fun _ _ _ => rfl) (z_L9_P4 (z_L0_N6 g_1))) ?_
    refine z_iload_n (q := 222) (i := 3) (x := x3) dX1_goesThrough_221 rfl rfl rfl ?_
    obtain ⟨g_2, hf⟩ := hf
    refine z_zald (q := 223) (n := 48) (z_L9_A4 (z_L0_N6 g_1)) g_2 dX1_goesThrough_222 rfl ?_
    refine z_if_eq (q := 226) (tgt := 244) dX1_goesThrough_223 rfl rfl (fun hc => ?_) (fun hc => ?_)
    · have hf := hf.1 hc
      refine z_iinc (q := 247) (i := 3) (x := x3) (v := (x3 + 1)) (ls2 := [some (.ref a0), none, some (.int x2), some (.int (x3 + 1))]) dX1_goesThrough_244 rfl rfl (z_lt rfl) rfl rfl ?_
      refine z_goto (q := 203) dX1_goesThrough_247 rfl ?_
      exact hf
    · have hf := hf.2 hc
      refine z_aload_n (q := 227) (i := 0) (x := a0) dX1_goesThrough_226 rfl rfl rfl ?_
      refine z_get 0 7 (q := 230) (v := .ref (a0 + 36)) rfl (z_lt rfl) (z_L0_T g_1) q513 dX1_goesThrough_227 rfl (z_fvR (fun _ _ _ => rfl) (z_L0_P7 g_1)) ?_
      refine z_getN 9 0 (q := 233) (v := .ref (a0 + 37)) rfl (z_lt rfl) (z_L9_T (z_L0_N7 g_1)) (z_nwm q374 rfl) dX1_goesThrough_230 rfl (z_fvR (fun _ _ _ => rfl) (z_L9_P0 (z_L0_N7 g_1))) ?_
      refine z_iload_n (q := 234) (i := 3) (x := x3) dX1_goesThrough_233 rfl rfl rfl ?_
      refine z_aload_n (q := 235) (i := 0) (x := a0) dX1_goesThrough_234 rfl rfl rfl ?_
      refine z_get 0 15 (q := 238) (v := .ref (a0 + 55)) rfl (z_lt rfl) (z_L0_T g_1) q521 dX1_goesThrough_235 rfl (z_fvR (fun _ _ _ => rfl) (z_L0_P15 g_1)) ?_
      refine z_iload_n (q := 239) (i := 2) (x := x2) dX1_goesThrough_238 rfl rfl rfl ?_
      refine z_iinc (q := 242) (i := 2) (x := x2) (v := (x2 + 1)) (ls2 := [some (.ref a0), none, some (.int (x2 + 1)), some (.int x3)]) dX1_goesThrough_239 rfl rfl (z_lt rfl) rfl rfl ?_
      obtain ⟨g_3, hf⟩ := hf
      refine z_iald (q := 243) (n := 24) (z_L0_A15 g_1) g_3 dX1_goesThrough_242 rfl ?_
      obtain ⟨g_4, hf⟩ := hf
      refine z_iast (q := 244) (n := 48) (z_L9_A0 (z_L0_N7 g_1)) g_4 dX1_goesThrough_243 rfl ?_
      refine z_iinc (q := 247) (i := 3) (x := x3) (v := (x3 + 1)) (ls2 := [some (.ref a0), none, some (.int (x2 + 1)), some (.int (x3 + 1))]) dX1_goesThrough_244 rfl rfl (z_lt rfl) rfl rfl ?_
      refine z_goto (q := 203) dX1_goesThrough_247 rfl ?_
      exact hf

theorem b_X1_goesThrough_252 {l : Launch} {G : z_G} {rc rs : Nat} {a0 : Nat} {x2 : Int32} {x3 : Int32} {h : z_H} {Q : z_Q}  (hf : z_L0 h a0 ∧ ((h.I (a0 + 23) 7) ≤ x3 → ∃ b_2, (h.P a0 4) = some b_2 ∧ z_L8 h b_2 ∧ ∃ b_5, (h.P a0 4) = some b_5 ∧ z_L8 h b_5 ∧ z_Ct l G m_X10_limit [.ref b_5] h (z_Qi (fun x_8 h_9 => z_L7 h_9 (a0 + 9) ∧ z_Ct l G m_X9_goes [.ref (a0 + 9), .ref (a0 + 36), .ref (b_2 + 3), .int x_8] h_9 (z_Qv (fun h_11 => z_L0 h_11 a0 ∧ vp_in (h_11.I (a0 + 9) 7) 4 ∧ vp_in (h_11.I (a0 + 9) 7) 4 ∧ z_Ct l G m_X1_nextRow [.ref a0] (h_11.sI (a0 + 56) (Int32.toNatClampNeg (h_11.I (a0 + 9) 7)) ((h_11.I (a0 + 56) (Int32.toNatClampNeg (h_11.I (a0 + 9) 7))) + 1)) (z_Qi (fun x_15 h_16 => (x_15 = 0 → Q (some (.int 1)) h_16) ∧ (¬ x_15 = 0 → z_V l G m_X1_goesThrough (z_Fm G m_X1_goesThrough Q) rc rs h_16 188 [some (.ref a0), none, none, none] [])))))))) ∧ (¬ (h.I (a0 + 23) 7) ≤ x3 → vp_in x3 48 ∧ ((h.I (a0 + 29) (Int32.toNatClampNeg x3)) = 0 → z_V l G m_X1_goesThrough (z_Fm G m_X1_goesThrough Q) rc rs h 252 [some (.ref a0), none, some (.int x2), some (.int (x3 + 1))] []) ∧ (¬ (h.I (a0 + 29) (Int32.toNatClampNeg x3)) = 0 → vp_in x2 24 ∧ vp_in x3 48 ∧ z_V l G m_X1_goesThrough (z_Fm G m_X1_goesThrough Q) rc rs (h.sI (a0 + 38) (Int32.toNatClampNeg x3) (h.I (a0 + 55) (Int32.toNatClampNeg x2))) 252 [some (.ref a0), none, some (.int (x2 + 1)), some (.int (x3 + 1))] []))) : z_V l G m_X1_goesThrough (z_Fm G m_X1_goesThrough Q) rc rs h 252 [some (.ref a0), none, some (.int x2), some (.int x3)] [] := by
  refine z_iload_n (q := 253) (i := 3) (x := x3) dX1_goesThrough_252 rfl rfl rfl ?_
  refine z_aload_n (q := 254) (i := 0) (x := a0) dX1_goesThrough_253 rfl rfl rfl ?_
  obtain ⟨g_1, hf⟩ := hf
  refine z_get 0 6 (q := 257) (v := .ref (a0 + 23)) rfl (z_lt rfl) (z_L0_T g_1) q512 dX1_goesThrough_254 rfl (z_fvR (fun _ _ _ => rfl) (z_L0_P6 g_1)) ?_
  refine z_getN 9 7 (q := 260) (v := .int (h.I (a0 + 23) 7)) rfl (z_lt rfl) (z_L9_T (z_L0_N6 g_1)) (z_nwm q390 rfl) dX1_goesThrough_257 rfl rfl ?_
  refine z_icmp_ge (q := 263) (tgt := 299) dX1_goesThrough_260 rfl rfl (fun hc => ?_) (fun hc => ?_)
  · have hf := hf.1 hc
    refine z_aload_n (q := 300) (i := 0) (x := a0) dX1_goesThrough_299 rfl rfl rfl ?_
    refine z_get 0 3 (q := 303) (v := .ref (a0 + 9)) rfl (z_lt rfl) (z_L0_T g_1) q508 dX1_goesThrough_300 rfl (z_fvR (fun _ _ _ => rfl) (z_L0_P3 g_1)) ?_
    refine z_aload_n (q := 304) (i := 0) (x := a0) dX1_goesThrough_303 rfl rfl rfl ?_
    refine z_get 0 7 (q := 307) (v := .ref (a0 + 36)) rfl (z_lt rfl) (z_L0_T g_1) q513 dX1_goesThrough_304 rfl (z_fvR (fun _ _ _ => rfl) (z_L0_P7 g_1)) ?_
    refine z_aload_n (q := 308) (i := 0) (x := a0) dX1_goesThrough_307 rfl rfl rfl ?_
    obtain ⟨b_2, g_3, hf⟩ := hf
    refine z_get 0 4 (q := 311) (v := .ref b_2) rfl (z_lt rfl) (z_L0_T g_1) q510 dX1_goesThrough_308 rfl (z_fvR (fun _ _ _ => rfl) g_3) ?_
    obtain ⟨g_4, hf⟩ := hf
    refine z_getN 8 1 (q := 314) (v := .ref (b_2 + 3)) rfl (z_lt rfl) (z_L8_T g_4) (z_nwm q334 rfl) dX1_goesThrough_311 rfl (z_fvR (fun _ _ _ => rfl) (z_L8_P1 g_4)) ?_
    refine z_aload_n (q := 315) (i := 0) (x := a0) dX1_goesThrough_314 rfl rfl rfl ?_
    obtain ⟨b_5, g_6, hf⟩ := hf
    refine z_get 0 4 (q := 318) (v := .ref b_5) rfl (z_lt rfl) (z_L0_T g_1) q510 dX1_goesThrough_315 rfl (z_fvR (fun _ _ _ => rfl) g_6) ?_
    obtain ⟨g_7, hf⟩ := hf
    refine z_cVi m_X10_limit [] (b_5) (q := 321) (rc2 := rc) (rs2 := rs) (st := [.ref (b_2 + 3), .ref (a0 + 36), .ref (a0 + 9)]) dX1_goesThrough_318 rfl q1415 oV_X10_limit rfl rfl ⟨z_le rfl, z_le rfl⟩ (z_le rfl) (z_rcv_of 8 rfl (z_L8_T g_7) rfl) rfl  rfl hf (fun x_8 h_9 hf => ?_)
    obtain ⟨g_10, hf⟩ := hf
    refine z_cVv m_X9_goes [.ref (a0 + 36), .ref (b_2 + 3), .int x_8] ((a0 + 9)) (q := 324) (rc2 := rc) (rs2 := rs) (st := []) dX1_goesThrough_321 rfl q1419 oV_X9_goes rfl rfl ⟨z_le rfl, z_le rfl⟩ (z_le rfl) (z_rcv_of 7 rfl (z_L7_T g_10) rfl) rfl  rfl hf (fun h_11 hf => ?_)
    refine z_aload_n (q := 325) (i := 0) (x := a0) dX1_goesThrough_324 rfl rfl rfl ?_
    obtain ⟨g_12, hf⟩ := hf
    refine z_get 0 17 (q := 328) (v := .ref (a0 + 56)) rfl (z_lt rfl) (z_L0_T g_12) q523 dX1_goesThrough_325 rfl (z_fvR (fun _ _ _ => rfl) (z_L0_P17 g_12)) ?_
    refine z_aload_n (q := 329) (i := 0) (x := a0) dX1_goesThrough_328 rfl rfl rfl ?_
    refine z_get 0 3 (q := 332) (v := .ref (a0 + 9)) rfl (z_lt rfl) (z_L0_T g_12) q508 dX1_goesThrough_329 rfl (z_fvR (fun _ _ _ => rfl) (z_L0_P3 g_12)) ?_
    refine z_getN 7 7 (q := 335) (v := .int (h_11.I (a0 + 9) 7)) rfl (z_lt rfl) (z_L7_T (z_L0_N3 g_12)) (z_nwm q261 rfl) dX1_goesThrough_332 rfl rfl ?_
    refine z_dup2 (q := 336) dX1_goesThrough_335 rfl rfl rfl ?_
    obtain ⟨g_13, hf⟩ := hf
    refine z_iald (q := 337) (n := 4) (z_L0_A17 g_12) g_13 dX1_goesThrough_336 rfl ?_
    refine z_iconst (q := 338) (v := 1) dX1_goesThrough_337 rfl rfl ?_
    refine z_iadd (q := 339) dX1_goesThrough_338 rfl ?_
    obtain ⟨g_14, hf⟩ := hf
    refine z_iast (q := 340) (n := 4) (z_L0_A17 g_12) g_14 dX1_goesThrough_339 rfl ?_
    refine z_aload_n (q := 341) (i := 0) (x := a0) dX1_goesThrough_340 rfl rfl rfl ?_
    refine z_cVi m_X1_nextRow [] (a0) (q := 344) (rc2 := rc) (rs2 := rs) (st := []) dX1_goesThrough_341 rfl q1465 oV_X1_nextRow rfl rfl ⟨z_le rfl, z_le rfl⟩ (z_le rfl) (z_rcv_of 0 rfl (z_L0_T g_12) rfl) rfl  rfl hf (fun x_15 h_16 hf => ?_)
    refine z_if_ne (q := 347) (tgt := 188) dX1_goesThrough_344 rfl rfl (fun hc => ?_) (fun hc => ?_)
    · have hf := hf.2 hc
      refine z_prune [true, false, false, false] (ls2 := [some (.ref a0), none, none, none]) rfl ?_
      exact hf
    · have hf := hf.1 hc
      refine z_iconst (q := 348) (v := 1) dX1_goesThrough_347 rfl rfl ?_
      exact z_zret dX1_goesThrough_348 rfl (z_nb01 z_b1) hf
  · have hf := hf.2 hc
    refine z_aload_n (q := 264) (i := 0) (x := a0) dX1_goesThrough_263 rfl rfl rfl ?_
    refine z_get 0 6 (q := 267) (v := .ref (a0 + 23)) rfl (z_lt rfl) (z_L0_T g_1) q512 dX1_goesThrough_264 rfl (z_fvR (fun _ _ _ => rfl) (z_L0_P6 g_1)) ?_
    refine z_getN 9 5 (q := 270) (v := .ref (a0 + 29)) rfl (z_lt rfl) (z_L9_T (z_L0_N6 g_1)) (z_nwm q384 rfl) dX1_goesThrough_267 rfl (z_fvR (fun _ _ _ => rfl) (z_L9_P5 (z_L0_N6 g_1))) ?_
    refine z_iload_n (q := 271) (i := 3) (x := x3) dX1_goesThrough_270 rfl rfl rfl ?_
    obtain ⟨g_17, hf⟩ := hf
    refine z_zald (q := 272) (n := 48) (z_L9_A5 (z_L0_N6 g_1)) g_17 dX1_goesThrough_271 rfl ?_
    refine z_if_eq (q := 275) (tgt := 293) dX1_goesThrough_272 rfl rfl (fun hc => ?_) (fun hc => ?_)
    · have hf := hf.1 hc
      refine z_iinc (q := 296) (i := 3) (x := x3) (v := (x3 + 1)) (ls2 := [some (.ref a0), none, some (.int x2), some (.int (x3 + 1))]) dX1_goesThrough_293 rfl rfl (z_lt rfl) rfl rfl ?_
      refine z_goto (q := 252) dX1_goesThrough_296 rfl ?_
      exact hf
    · have hf := hf.2 hc
      refine z_aload_n (q := 276) (i := 0) (x := a0) dX1_goesThrough_275 rfl rfl rfl ?_
      refine z_get 0 7 (q := 279) (v := .ref (a0 + 36)) rfl (z_lt rfl) (z_L0_T g_1) q513 dX1_goesThrough_276 rfl (z_fvR (fun _ _ _ => rfl) (z_L0_P7 g_1)) ?_
      refine z_getN 9 1 (q := 282) (v := .ref (a0 + 38)) rfl (z_lt rfl) (z_L9_T (z_L0_N7 g_1)) (z_nwm q377 rfl) dX1_goesThrough_279 rfl (z_fvR (fun _ _ _ => rfl) (z_L9_P1 (z_L0_N7 g_1))) ?_
      refine z_iload_n (q := 283) (i := 3) (x := x3) dX1_goesThrough_282 rfl rfl rfl ?_
      refine z_aload_n (q := 284) (i := 0) (x := a0) dX1_goesThrough_283 rfl rfl rfl ?_
      refine z_get 0 15 (q := 287) (v := .ref (a0 + 55)) rfl (z_lt rfl) (z_L0_T g_1) q521 dX1_goesThrough_284 rfl (z_fvR (fun _ _ _ => rfl) (z_L0_P15 g_1)) ?_
      refine z_iload_n (q := 288) (i := 2) (x := x2) dX1_goesThrough_287 rfl rfl rfl ?_
      refine z_iinc (q := 291) (i := 2) (x := x2) (v := (x2 + 1)) (ls2 := [some (.ref a0), none, some (.int (x2 + 1)), some (.int x3)]) dX1_goesThrough_288 rfl rfl (z_lt rfl) rfl rfl ?_
      obtain ⟨g_18, hf⟩ := hf
      refine z_iald (q := 292) (n := 24) (z_L0_A15 g_1) g_18 dX1_goesThrough_291 rfl ?_
      obtain ⟨g_19, hf⟩ := hf
      refine z_iast (q := 293) (n := 48) (z_L9_A1 (z_L0_N7 g_1)) g_19 dX1_goesThrough_292 rfl ?_
      refine z_iinc (q := 296) (i := 3) (x := x3) (v := (x3 + 1)) (ls2 := [some (.ref a0), none, some (.int (x2 + 1)), some (.int (x3 + 1))]) dX1_goesThrough_293 rfl rfl (z_lt rfl) rfl rfl ?_
      refine z_goto (q := 252) dX1_goesThrough_296 rfl ?_
      exact hf

theorem u_X1_goesTo {l : Launch} {G : z_G} {a0 : Nat} {x1 : Int32} {h : z_H} {Q : z_Q} (hst : l.stackTraces = false)  (hf : z_L0 h a0 ∧ (x1 ≤ (h.I (a0 + 36) 14) → Q (some (.int 1)) h) ∧ (¬ x1 ≤ (h.I (a0 + 36) 14) → ∃ b_2, (h.P a0 4) = some b_2 ∧ z_L8 h b_2 ∧ z_Ct l G m_X10_limit [.ref b_2] h (z_Qi (fun x_5 h_6 => ((h.I (a0 + 36) 13) = x_5 → Q (some (.int 0)) h_6) ∧ (¬ (h.I (a0 + 36) 13) = x_5 → z_L0 h_6 a0 ∧ ∃ b_8, (h_6.P a0 4) = some b_8 ∧ z_L8 h_6 b_8 ∧ ∃ b_11, (h_6.P a0 4) = some b_11 ∧ z_L8 h_6 b_11 ∧ z_Ct l G m_X10_order [.ref b_11] h_6 (z_Qi (fun x_14 h_15 => ∃ n_16, h_15.T (a0 + 3) = (6, n_16) ∧ vp_in x_14 n_16 ∧ ∃ b_19, (h_15.P (a0 + 3) (Int32.toNatClampNeg x_14)) = some b_19 ∧ z_L0 h_15 a0 ∧ vp_in 1 5 ∧ ∃ b_23, (h_15.P (a0 + 3) (Int32.toNatClampNeg 1)) = some b_23 ∧ z_L9 h_15 (a0 + 36) ∧ z_Ct l G m_X11_turn [.ref (a0 + 36), .ref (b_8 + 3), .ref b_19, .ref b_23] h_15 (z_Qi (fun x_26 h_27 => (x_26 = 2 → Q (some (.int 0)) h_27) ∧ (¬ x_26 = 2 → z_V l G m_X1_goesTo (z_Fm G m_X1_goesTo Q) 0 0 h_27 0 [some (.ref a0), some (.int x1)] [])))))))))) : z_Ct l G m_X1_goesTo [.ref a0, .int x1] h Q := by
  refine z_Ct.of (ls := [some (.ref a0), some (.int x1)]) hst rfl (by decide +kernel) (z_le rfl) rfl ?_
  show z_V l G m_X1_goesTo (z_Fm G m_X1_goesTo Q) 0 0 h 0 [some (.ref a0), some (.int x1)] []
  refine z_aload_n (q := 1) (i := 0) (x := a0) dX1_goesTo_0 rfl rfl rfl ?_
  obtain ⟨g_1, hf⟩ := hf
  refine z_get 0 7 (q := 4) (v := .ref (a0 + 36)) rfl (z_lt rfl) (z_L0_T g_1) q513 dX1_goesTo_1 rfl (z_fvR (fun _ _ _ => rfl) (z_L0_P7 g_1)) ?_
  refine z_getN 9 14 (q := 7) (v := .int (h.I (a0 + 36) 14)) rfl (z_lt rfl) (z_L9_T (z_L0_N7 g_1)) (z_nwm q408 rfl) dX1_goesTo_4 rfl rfl ?_
  refine z_iload_n (q := 8) (i := 1) (x := x1) dX1_goesTo_7 rfl rfl rfl ?_
  refine z_icmp_ge (q := 11) (tgt := 66) dX1_goesTo_8 rfl rfl (fun hc => ?_) (fun hc => ?_)
  · have hf := hf.1 hc
    refine z_iconst (q := 67) (v := 1) dX1_goesTo_66 rfl rfl ?_
    exact z_zret dX1_goesTo_67 rfl (z_nb01 z_b1) hf
  · have hf := hf.2 hc
    refine z_aload_n (q := 12) (i := 0) (x := a0) dX1_goesTo_11 rfl rfl rfl ?_
    refine z_get 0 7 (q := 15) (v := .ref (a0 + 36)) rfl (z_lt rfl) (z_L0_T g_1) q513 dX1_goesTo_12 rfl (z_fvR (fun _ _ _ => rfl) (z_L0_P7 g_1)) ?_
    refine z_getN 9 13 (q := 18) (v := .int (h.I (a0 + 36) 13)) rfl (z_lt rfl) (z_L9_T (z_L0_N7 g_1)) (z_nwm q405 rfl) dX1_goesTo_15 rfl rfl ?_
    refine z_aload_n (q := 19) (i := 0) (x := a0) dX1_goesTo_18 rfl rfl rfl ?_
    obtain ⟨b_2, g_3, hf⟩ := hf
    refine z_get 0 4 (q := 22) (v := .ref b_2) rfl (z_lt rfl) (z_L0_T g_1) q510 dX1_goesTo_19 rfl (z_fvR (fun _ _ _ => rfl) g_3) ?_
    obtain ⟨g_4, hf⟩ := hf
    refine z_cVi m_X10_limit [] (b_2) (q := 25) (rc2 := 0) (rs2 := 0) (st := [.int (h.I (a0 + 36) 13)]) dX1_goesTo_22 rfl q1415 oV_X10_limit rfl rfl ⟨z_le rfl, z_le rfl⟩ (z_le rfl) (z_rcv_of 8 rfl (z_L8_T g_4) rfl) rfl  rfl hf (fun x_5 h_6 hf => ?_)
    refine z_icmp_eq (q := 28) (tgt := 64) dX1_goesTo_25 rfl rfl (fun hc => ?_) (fun hc => ?_)
    · have hf := hf.1 hc
      refine z_iconst (q := 65) (v := 0) dX1_goesTo_64 rfl rfl ?_
      exact z_zret dX1_goesTo_65 rfl (z_nb01 z_b0) hf
    · have hf := hf.2 hc
      refine z_aload_n (q := 29) (i := 0) (x := a0) dX1_goesTo_28 rfl rfl rfl ?_
      obtain ⟨g_7, hf⟩ := hf
      refine z_get 0 7 (q := 32) (v := .ref (a0 + 36)) rfl (z_lt rfl) (z_L0_T g_7) q513 dX1_goesTo_29 rfl (z_fvR (fun _ _ _ => rfl) (z_L0_P7 g_7)) ?_
      refine z_aload_n (q := 33) (i := 0) (x := a0) dX1_goesTo_32 rfl rfl rfl ?_
      obtain ⟨b_8, g_9, hf⟩ := hf
      refine z_get 0 4 (q := 36) (v := .ref b_8) rfl (z_lt rfl) (z_L0_T g_7) q510 dX1_goesTo_33 rfl (z_fvR (fun _ _ _ => rfl) g_9) ?_
      obtain ⟨g_10, hf⟩ := hf
      refine z_getN 8 1 (q := 39) (v := .ref (b_8 + 3)) rfl (z_lt rfl) (z_L8_T g_10) (z_nwm q334 rfl) dX1_goesTo_36 rfl (z_fvR (fun _ _ _ => rfl) (z_L8_P1 g_10)) ?_
      refine z_aload_n (q := 40) (i := 0) (x := a0) dX1_goesTo_39 rfl rfl rfl ?_
      refine z_get 0 2 (q := 43) (v := .ref (a0 + 3)) rfl (z_lt rfl) (z_L0_T g_7) q507 dX1_goesTo_40 rfl (z_fvR (fun _ _ _ => rfl) (z_L0_P2 g_7)) ?_
      refine z_aload_n (q := 44) (i := 0) (x := a0) dX1_goesTo_43 rfl rfl rfl ?_
      obtain ⟨b_11, g_12, hf⟩ := hf
      refine z_get 0 4 (q := 47) (v := .ref b_11) rfl (z_lt rfl) (z_L0_T g_7) q510 dX1_goesTo_44 rfl (z_fvR (fun _ _ _ => rfl) g_12) ?_
      obtain ⟨g_13, hf⟩ := hf
      refine z_cVi m_X10_order [] (b_11) (q := 50) (rc2 := 0) (rs2 := 0) (st := [.ref (a0 + 3), .ref (b_8 + 3), .ref (a0 + 36)]) dX1_goesTo_47 rfl q1364 oV_X10_order rfl rfl ⟨z_le rfl, z_le rfl⟩ (z_le rfl) (z_rcv_of 8 rfl (z_L8_T g_13) rfl) rfl  rfl hf (fun x_14 h_15 hf => ?_)
      obtain ⟨n_16, g_17, hf⟩ := hf
      obtain ⟨g_18, hf⟩ := hf
      obtain ⟨b_19, g_20, hf⟩ := hf
      refine z_aald (q := 51) (n := n_16) (v := .ref b_19) g_17 (by decide) g_18 dX1_goesTo_50 rfl (z_rfR g_20) ?_
      refine z_aload_n (q := 52) (i := 0) (x := a0) dX1_goesTo_51 rfl rfl rfl ?_
      obtain ⟨g_21, hf⟩ := hf
      refine z_get 0 2 (q := 55) (v := .ref (a0 + 3)) rfl (z_lt rfl) (z_L0_T g_21) q507 dX1_goesTo_52 rfl (z_fvR (fun _ _ _ => rfl) (z_L0_P2 g_21)) ?_
      refine z_iconst (q := 56) (v := 1) dX1_goesTo_55 rfl rfl ?_
      obtain ⟨g_22, hf⟩ := hf
      obtain ⟨b_23, g_24, hf⟩ := hf
      refine z_aald (q := 57) (n := 5) (v := .ref b_23) (z_L0_A2 g_21) (by decide) g_22 dX1_goesTo_56 rfl (z_rfR g_24) ?_
      obtain ⟨g_25, hf⟩ := hf
      refine z_cVi m_X11_turn [.ref (b_8 + 3), .ref b_19, .ref b_23] ((a0 + 36)) (q := 60) (rc2 := 0) (rs2 := 0) (st := []) dX1_goesTo_57 rfl q1493 oV_X11_turn rfl rfl ⟨z_le rfl, z_le rfl⟩ (z_le rfl) (z_rcv_of 9 rfl (z_L9_T g_25) rfl) rfl  rfl hf (fun x_26 h_27 hf => ?_)
      refine z_iconst (q := 61) (v := 2) dX1_goesTo_60 rfl rfl ?_
      refine z_icmp_ne (q := 64) (tgt := 0) dX1_goesTo_61 rfl rfl (fun hc => ?_) (fun hc => ?_)
      · have hf := hf.2 hc
        exact hf
      · have hf := hf.1 hc
        refine z_iconst (q := 65) (v := 0) dX1_goesTo_64 rfl rfl ?_
        exact z_zret dX1_goesTo_65 rfl (z_nb01 z_b0) hf

theorem b_X1_goesTo_0 {l : Launch} {G : z_G} {a0 : Nat} {x1 : Int32} {h : z_H} {Q : z_Q}  (hf : z_L0 h a0 ∧ (x1 ≤ (h.I (a0 + 36) 14) → Q (some (.int 1)) h) ∧ (¬ x1 ≤ (h.I (a0 + 36) 14) → ∃ b_2, (h.P a0 4) = some b_2 ∧ z_L8 h b_2 ∧ z_Ct l G m_X10_limit [.ref b_2] h (z_Qi (fun x_5 h_6 => ((h.I (a0 + 36) 13) = x_5 → Q (some (.int 0)) h_6) ∧ (¬ (h.I (a0 + 36) 13) = x_5 → z_L0 h_6 a0 ∧ ∃ b_8, (h_6.P a0 4) = some b_8 ∧ z_L8 h_6 b_8 ∧ ∃ b_11, (h_6.P a0 4) = some b_11 ∧ z_L8 h_6 b_11 ∧ z_Ct l G m_X10_order [.ref b_11] h_6 (z_Qi (fun x_14 h_15 => ∃ n_16, h_15.T (a0 + 3) = (6, n_16) ∧ vp_in x_14 n_16 ∧ ∃ b_19, (h_15.P (a0 + 3) (Int32.toNatClampNeg x_14)) = some b_19 ∧ z_L0 h_15 a0 ∧ vp_in 1 5 ∧ ∃ b_23, (h_15.P (a0 + 3) (Int32.toNatClampNeg 1)) = some b_23 ∧ z_L9 h_15 (a0 + 36) ∧ z_Ct l G m_X11_turn [.ref (a0 + 36), .ref (b_8 + 3), .ref b_19, .ref b_23] h_15 (z_Qi (fun x_26 h_27 => (x_26 = 2 → Q (some (.int 0)) h_27) ∧ (¬ x_26 = 2 → z_V l G m_X1_goesTo (z_Fm G m_X1_goesTo Q) 0 0 h_27 0 [some (.ref a0), some (.int x1)] [])))))))))) : z_V l G m_X1_goesTo (z_Fm G m_X1_goesTo Q) 0 0 h 0 [some (.ref a0), some (.int x1)] [] := by
  refine z_aload_n (q := 1) (i := 0) (x := a0) dX1_goesTo_0 rfl rfl rfl ?_
  obtain ⟨g_1, hf⟩ := hf
  refine z_get 0 7 (q := 4) (v := .ref (a0 + 36)) rfl (z_lt rfl) (z_L0_T g_1) q513 dX1_goesTo_1 rfl (z_fvR (fun _ _ _ => rfl) (z_L0_P7 g_1)) ?_
  refine z_getN 9 14 (q := 7) (v := .int (h.I (a0 + 36) 14)) rfl (z_lt rfl) (z_L9_T (z_L0_N7 g_1)) (z_nwm q408 rfl) dX1_goesTo_4 rfl rfl ?_
  refine z_iload_n (q := 8) (i := 1) (x := x1) dX1_goesTo_7 rfl rfl rfl ?_
  refine z_icmp_ge (q := 11) (tgt := 66) dX1_goesTo_8 rfl rfl (fun hc => ?_) (fun hc => ?_)
  · have hf := hf.1 hc
    refine z_iconst (q := 67) (v := 1) dX1_goesTo_66 rfl rfl ?_
    exact z_zret dX1_goesTo_67 rfl (z_nb01 z_b1) hf
  · have hf := hf.2 hc
    refine z_aload_n (q := 12) (i := 0) (x := a0) dX1_goesTo_11 rfl rfl rfl ?_
    refine z_get 0 7 (q := 15) (v := .ref (a0 + 36)) rfl (z_lt rfl) (z_L0_T g_1) q513 dX1_goesTo_12 rfl (z_fvR (fun _ _ _ => rfl) (z_L0_P7 g_1)) ?_
    refine z_getN 9 13 (q := 18) (v := .int (h.I (a0 + 36) 13)) rfl (z_lt rfl) (z_L9_T (z_L0_N7 g_1)) (z_nwm q405 rfl) dX1_goesTo_15 rfl rfl ?_
    refine z_aload_n (q := 19) (i := 0) (x := a0) dX1_goesTo_18 rfl rfl rfl ?_
    obtain ⟨b_2, g_3, hf⟩ := hf
    refine z_get 0 4 (q := 22) (v := .ref b_2) rfl (z_lt rfl) (z_L0_T g_1) q510 dX1_goesTo_19 rfl (z_fvR (fun _ _ _ => rfl) g_3) ?_
    obtain ⟨g_4, hf⟩ := hf
    refine z_cVi m_X10_limit [] (b_2) (q := 25) (rc2 := 0) (rs2 := 0) (st := [.int (h.I (a0 + 36) 13)]) dX1_goesTo_22 rfl q1415 oV_X10_limit rfl rfl ⟨z_le rfl, z_le rfl⟩ (z_le rfl) (z_rcv_of 8 rfl (z_L8_T g_4) rfl) rfl  rfl hf (fun x_5 h_6 hf => ?_)
    refine z_icmp_eq (q := 28) (tgt := 64) dX1_goesTo_25 rfl rfl (fun hc => ?_) (fun hc => ?_)
    · have hf := hf.1 hc
      refine z_iconst (q := 65) (v := 0) dX1_goesTo_64 rfl rfl ?_
      exact z_zret dX1_goesTo_65 rfl (z_nb01 z_b0) hf
    · have hf := hf.2 hc
      refine z_aload_n (q := 29) (i := 0) (x := a0) dX1_goesTo_28 rfl rfl rfl ?_
      obtain ⟨g_7, hf⟩ := hf
      refine z_get 0 7 (q := 32) (v := .ref (a0 + 36)) rfl (z_lt rfl) (z_L0_T g_7) q513 dX1_goesTo_29 rfl (z_fvR (fun _ _ _ => rfl) (z_L0_P7 g_7)) ?_
      refine z_aload_n (q := 33) (i := 0) (x := a0) dX1_goesTo_32 rfl rfl rfl ?_
      obtain ⟨b_8, g_9, hf⟩ := hf
      refine z_get 0 4 (q := 36) (v := .ref b_8) rfl (z_lt rfl) (z_L0_T g_7) q510 dX1_goesTo_33 rfl (z_fvR (fun _ _ _ => rfl) g_9) ?_
      obtain ⟨g_10, hf⟩ := hf
      refine z_getN 8 1 (q := 39) (v := .ref (b_8 + 3)) rfl (z_lt rfl) (z_L8_T g_10) (z_nwm q334 rfl) dX1_goesTo_36 rfl (z_fvR (fun _ _ _ => rfl) (z_L8_P1 g_10)) ?_
      refine z_aload_n (q := 40) (i := 0) (x := a0) dX1_goesTo_39 rfl rfl rfl ?_
      refine z_get 0 2 (q := 43) (v := .ref (a0 + 3)) rfl (z_lt rfl) (z_L0_T g_7) q507 dX1_goesTo_40 rfl (z_fvR (fun _ _ _ => rfl) (z_L0_P2 g_7)) ?_
      refine z_aload_n (q := 44) (i := 0) (x := a0) dX1_goesTo_43 rfl rfl rfl ?_
      obtain ⟨b_11, g_12, hf⟩ := hf
      refine z_get 0 4 (q := 47) (v := .ref b_11) rfl (z_lt rfl) (z_L0_T g_7) q510 dX1_goesTo_44 rfl (z_fvR (fun _ _ _ => rfl) g_12) ?_
      obtain ⟨g_13, hf⟩ := hf
      refine z_cVi m_X10_order [] (b_11) (q := 50) (rc2 := 0) (rs2 := 0) (st := [.ref (a0 + 3), .ref (b_8 + 3), .ref (a0 + 36)]) dX1_goesTo_47 rfl q1364 oV_X10_order rfl rfl ⟨z_le rfl, z_le rfl⟩ (z_le rfl) (z_rcv_of 8 rfl (z_L8_T g_13) rfl) rfl  rfl hf (fun x_14 h_15 hf => ?_)
      obtain ⟨n_16, g_17, hf⟩ := hf
      obtain ⟨g_18, hf⟩ := hf
      obtain ⟨b_19, g_20, hf⟩ := hf
      refine z_aald (q := 51) (n := n_16) (v := .ref b_19) g_17 (by decide) g_18 dX1_goesTo_50 rfl (z_rfR g_20) ?_
      refine z_aload_n (q := 52) (i := 0) (x := a0) dX1_goesTo_51 rfl rfl rfl ?_
      obtain ⟨g_21, hf⟩ := hf
      refine z_get 0 2 (q := 55) (v := .ref (a0 + 3)) rfl (z_lt rfl) (z_L0_T g_21) q507 dX1_goesTo_52 rfl (z_fvR (fun _ _ _ => rfl) (z_L0_P2 g_21)) ?_
      refine z_iconst (q := 56) (v := 1) dX1_goesTo_55 rfl rfl ?_
      obtain ⟨g_22, hf⟩ := hf
      obtain ⟨b_23, g_24, hf⟩ := hf
      refine z_aald (q := 57) (n := 5) (v := .ref b_23) (z_L0_A2 g_21) (by decide) g_22 dX1_goesTo_56 rfl (z_rfR g_24) ?_
      obtain ⟨g_25, hf⟩ := hf
      refine z_cVi m_X11_turn [.ref (b_8 + 3), .ref b_19, .ref b_23] ((a0 + 36)) (q := 60) (rc2 := 0) (rs2 := 0) (st := []) dX1_goesTo_57 rfl q1493 oV_X11_turn rfl rfl ⟨z_le rfl, z_le rfl⟩ (z_le rfl) (z_rcv_of 9 rfl (z_L9_T g_25) rfl) rfl  rfl hf (fun x_26 h_27 hf => ?_)
      refine z_iconst (q := 61) (v := 2) dX1_goesTo_60 rfl rfl ?_
      refine z_icmp_ne (q := 64) (tgt := 0) dX1_goesTo_61 rfl rfl (fun hc => ?_) (fun hc => ?_)
      · have hf := hf.2 hc
        exact hf
      · have hf := hf.1 hc
        refine z_iconst (q := 65) (v := 0) dX1_goesTo_64 rfl rfl ?_
        exact z_zret dX1_goesTo_65 rfl (z_nb01 z_b0) hf

theorem u_X1_goesToHeap {l : Launch} {G : z_G} {a0 : Nat} {a1 : Nat} {h : z_H} {Q : z_Q} (hst : l.stackTraces = false)  (hf : z_L9 h a1 ∧ (0 ≤ (h.I a1 12) → Q (some (.int 0)) h) ∧ (¬ 0 ≤ (h.I a1 12) → z_L0 h a0 ∧ ∃ b_3, (h.P a0 4) = some b_3 ∧ z_L8 h b_3 ∧ z_Ct l G m_X11_turned [.ref a1, .ref (b_3 + 3)] h (z_Qi (fun x_6 h_7 => (x_6 = 0 → z_V l G m_X1_goesToHeap (z_Fm G m_X1_goesToHeap Q) 0 0 h_7 0 [some (.ref a0), some (.ref a1)] []) ∧ (¬ x_6 = 0 → Q (some (.int 1)) h_7))))) : z_Ct l G m_X1_goesToHeap [.ref a0, .ref a1] h Q := by
  refine z_Ct.of (ls := [some (.ref a0), some (.ref a1)]) hst rfl (by decide +kernel) (z_le rfl) rfl ?_
  show z_V l G m_X1_goesToHeap (z_Fm G m_X1_goesToHeap Q) 0 0 h 0 [some (.ref a0), some (.ref a1)] []
  refine z_aload_n (q := 1) (i := 1) (x := a1) dX1_goesToHeap_0 rfl rfl rfl ?_
  obtain ⟨g_1, hf⟩ := hf
  refine z_getN 9 12 (q := 4) (v := .int (h.I a1 12)) rfl (z_lt rfl) (z_L9_T g_1) (z_nwm q402 rfl) dX1_goesToHeap_1 rfl rfl ?_
  refine z_if_ge (q := 7) (tgt := 23) dX1_goesToHeap_4 rfl rfl (fun hc => ?_) (fun hc => ?_)
  · have hf := hf.1 hc
    refine z_iconst (q := 24) (v := 0) dX1_goesToHeap_23 rfl rfl ?_
    exact z_zret dX1_goesToHeap_24 rfl (z_nb01 z_b0) hf
  · have hf := hf.2 hc
    refine z_aload_n (q := 8) (i := 1) (x := a1) dX1_goesToHeap_7 rfl rfl rfl ?_
    refine z_aload_n (q := 9) (i := 0) (x := a0) dX1_goesToHeap_8 rfl rfl rfl ?_
    obtain ⟨g_2, hf⟩ := hf
    obtain ⟨b_3, g_4, hf⟩ := hf
    refine z_get 0 4 (q := 12) (v := .ref b_3) rfl (z_lt rfl) (z_L0_T g_2) q510 dX1_goesToHeap_9 rfl (z_fvR (fun _ _ _ => rfl) g_4) ?_
    obtain ⟨g_5, hf⟩ := hf
    refine z_getN 8 1 (q := 15) (v := .ref (b_3 + 3)) rfl (z_lt rfl) (z_L8_T g_5) (z_nwm q334 rfl) dX1_goesToHeap_12 rfl (z_fvR (fun _ _ _ => rfl) (z_L8_P1 g_5)) ?_
    refine z_cVi m_X11_turned [.ref (b_3 + 3)] (a1) (q := 18) (rc2 := 0) (rs2 := 0) (st := []) dX1_goesToHeap_15 rfl q1315 oV_X11_turned rfl rfl ⟨z_le rfl, z_le rfl⟩ (z_le rfl) (z_rcv_of 9 rfl (z_L9_T g_1) rfl) rfl  rfl hf (fun x_6 h_7 hf => ?_)
    refine z_if_eq (q := 21) (tgt := 0) dX1_goesToHeap_18 rfl rfl (fun hc => ?_) (fun hc => ?_)
    · have hf := hf.1 hc
      exact hf
    · have hf := hf.2 hc
      refine z_iconst (q := 22) (v := 1) dX1_goesToHeap_21 rfl rfl ?_
      exact z_zret dX1_goesToHeap_22 rfl (z_nb01 z_b1) hf

theorem b_X1_goesToHeap_0 {l : Launch} {G : z_G} {a0 : Nat} {a1 : Nat} {h : z_H} {Q : z_Q}  (hf : z_L9 h a1 ∧ (0 ≤ (h.I a1 12) → Q (some (.int 0)) h) ∧ (¬ 0 ≤ (h.I a1 12) → z_L0 h a0 ∧ ∃ b_3, (h.P a0 4) = some b_3 ∧ z_L8 h b_3 ∧ z_Ct l G m_X11_turned [.ref a1, .ref (b_3 + 3)] h (z_Qi (fun x_6 h_7 => (x_6 = 0 → z_V l G m_X1_goesToHeap (z_Fm G m_X1_goesToHeap Q) 0 0 h_7 0 [some (.ref a0), some (.ref a1)] []) ∧ (¬ x_6 = 0 → Q (some (.int 1)) h_7))))) : z_V l G m_X1_goesToHeap (z_Fm G m_X1_goesToHeap Q) 0 0 h 0 [some (.ref a0), some (.ref a1)] [] := by
  refine z_aload_n (q := 1) (i := 1) (x := a1) dX1_goesToHeap_0 rfl rfl rfl ?_
  obtain ⟨g_1, hf⟩ := hf
  refine z_getN 9 12 (q := 4) (v := .int (h.I a1 12)) rfl (z_lt rfl) (z_L9_T g_1) (z_nwm q402 rfl) dX1_goesToHeap_1 rfl rfl ?_
  refine z_if_ge (q := 7) (tgt := 23) dX1_goesToHeap_4 rfl rfl (fun hc => ?_) (fun hc => ?_)
  · have hf := hf.1 hc
    refine z_iconst (q := 24) (v := 0) dX1_goesToHeap_23 rfl rfl ?_
    exact z_zret dX1_goesToHeap_24 rfl (z_nb01 z_b0) hf
  · have hf := hf.2 hc
    refine z_aload_n (q := 8) (i := 1) (x := a1) dX1_goesToHeap_7 rfl rfl rfl ?_
    refine z_aload_n (q := 9) (i := 0) (x := a0) dX1_goesToHeap_8 rfl rfl rfl ?_
    obtain ⟨g_2, hf⟩ := hf
    obtain ⟨b_3, g_4, hf⟩ := hf
    refine z_get 0 4 (q := 12) (v := .ref b_3) rfl (z_lt rfl) (z_L0_T g_2) q510 dX1_goesToHeap_9 rfl (z_fvR (fun _ _ _ => rfl) g_4) ?_
    obtain ⟨g_5, hf⟩ := hf
    refine z_getN 8 1 (q := 15) (v := .ref (b_3 + 3)) rfl (z_lt rfl) (z_L8_T g_5) (z_nwm q334 rfl) dX1_goesToHeap_12 rfl (z_fvR (fun _ _ _ => rfl) (z_L8_P1 g_5)) ?_
    refine z_cVi m_X11_turned [.ref (b_3 + 3)] (a1) (q := 18) (rc2 := 0) (rs2 := 0) (st := []) dX1_goesToHeap_15 rfl q1315 oV_X11_turned rfl rfl ⟨z_le rfl, z_le rfl⟩ (z_le rfl) (z_rcv_of 9 rfl (z_L9_T g_1) rfl) rfl  rfl hf (fun x_6 h_7 hf => ?_)
    refine z_if_eq (q := 21) (tgt := 0) dX1_goesToHeap_18 rfl rfl (fun hc => ?_) (fun hc => ?_)
    · have hf := hf.1 hc
      exact hf
    · have hf := hf.2 hc
      refine z_iconst (q := 22) (v := 1) dX1_goesToHeap_21 rfl rfl ?_
      exact z_zret dX1_goesToHeap_22 rfl (z_nb01 z_b1) hf

theorem u_X1_heap {l : Launch} {G : z_G} {a0 : Nat} {x1 : Int32} {h : z_H} {Q : z_Q} (hst : l.stackTraces = false)  (hf : z_L0 h a0 ∧ z_Ct l G m_X1_in [.int x1, .int 0, .int ((h.I (a0 + 23) 8) - 1)] h (z_Qi (fun x_2 h_3 => z_L0 h_3 a0 ∧ ((x_2 = 0 → True) ∧ (¬ x_2 = 0 → vp_in x1 48 ∧ True)) ∧ Q (some (.int (if x_2 = 0 then (-1) else (h_3.I (a0 + 26) (Int32.toNatClampNeg x1))))) h_3))) : z_Ct l G m_X1_heap [.ref a0, .int x1] h Q := by
  refine z_Ct.of (ls := [some (.ref a0), some (.int x1)]) hst rfl (by decide +kernel) (z_le rfl) rfl ?_
  show z_V l G m_X1_heap (z_Fm G m_X1_heap Q) 0 0 h 0 [some (.ref a0), some (.int x1)] []
  refine z_iload_n (q := 1) (i := 1) (x := x1) dX1_heap_0 rfl rfl rfl ?_
  refine z_iconst (q := 2) (v := 0) dX1_heap_1 rfl rfl ?_
  refine z_aload_n (q := 3) (i := 0) (x := a0) dX1_heap_2 rfl rfl rfl ?_
  obtain ⟨g_1, hf⟩ := hf
  refine z_get 0 6 (q := 6) (v := .ref (a0 + 23)) rfl (z_lt rfl) (z_L0_T g_1) q512 dX1_heap_3 rfl (z_fvR (fun _ _ _ => rfl) (z_L0_P6 g_1)) ?_
  refine z_getN 9 8 (q := 9) (v := .int (h.I (a0 + 23) 8)) rfl (z_lt rfl) (z_L9_T (z_L0_N6 g_1)) (z_nwm q392 rfl) dX1_heap_6 rfl rfl ?_
  refine z_iconst (q := 10) (v := 1) dX1_heap_9 rfl rfl ?_
  refine z_isub (q := 11) dX1_heap_10 rfl ?_
  refine z_cSi m_X1_in [.int x1, .int 0, .int ((h.I (a0 + 23) 8) - 1)] (q := 14) (rc2 := 0) (rs2 := 0) (st := []) dX1_heap_11 rfl q1259 oS_X1_in rfl rfl ⟨z_le rfl, z_le rfl⟩ (z_le rfl) rfl  rfl hf (fun x_2 h_3 hf => ?_)
  obtain ⟨g_4, hf⟩ := hf
  obtain ⟨hsc, hf⟩ := hf
  have hk : z_V l G m_X1_heap (z_Fm G m_X1_heap Q) 0 0 h_3 30 [some (.ref a0), some (.int x1)] [.int (if x_2 = 0 then (-1) else (h_3.I (a0 + 26) (Int32.toNatClampNeg x1)))] := by
    exact z_iret dX1_heap_30 rfl hf
  refine z_if_eq (q := 17) (tgt := 29) dX1_heap_14 rfl rfl (fun hc => ?_) (fun hc => ?_)
  · have hk := (z_ite hk).1 hc
    have hsc := hsc.1 hc
    refine z_iconst (q := 30) (v := (-1)) dX1_heap_29 rfl rfl ?_
    exact hk
  · have hk := (z_ite hk).2 hc
    have hsc := hsc.2 hc
    obtain ⟨g_5, hsc⟩ := hsc
    refine z_aload_n (q := 18) (i := 0) (x := a0) dX1_heap_17 rfl rfl rfl ?_
    refine z_get 0 6 (q := 21) (v := .ref (a0 + 23)) rfl (z_lt rfl) (z_L0_T g_4) q512 dX1_heap_18 rfl (z_fvR (fun _ _ _ => rfl) (z_L0_P6 g_4)) ?_
    refine z_getN 9 2 (q := 24) (v := .ref (a0 + 26)) rfl (z_lt rfl) (z_L9_T (z_L0_N6 g_4)) (z_nwm q379 rfl) dX1_heap_21 rfl (z_fvR (fun _ _ _ => rfl) (z_L9_P2 (z_L0_N6 g_4))) ?_
    refine z_iload_n (q := 25) (i := 1) (x := x1) dX1_heap_24 rfl rfl rfl ?_
    refine z_iald (q := 26) (n := 48) (z_L9_A2 (z_L0_N6 g_4)) g_5 dX1_heap_25 rfl ?_
    refine z_goto (q := 30) dX1_heap_26 rfl ?_
    exact hk

theorem u_X1_in {l : Launch} {G : z_G} {x0 : Int32} {x1 : Int32} {x2 : Int32} {h : z_H} {Q : z_Q} (hst : l.stackTraces = false)  (hf : Q (some (.int (if x0 < x1 then 0 else (if x2 < x0 then 0 else 1)))) h) : z_Ct l G m_X1_in [.int x0, .int x1, .int x2] h Q := by
  refine z_Ct.of (ls := [some (.int x0), some (.int x1), some (.int x2)]) hst rfl (by decide +kernel) (z_le rfl) rfl ?_
  show z_V l G m_X1_in (z_Fm G m_X1_in Q) 0 0 h 0 [some (.int x0), some (.int x1), some (.int x2)] []
  refine z_iload_n (q := 1) (i := 0) (x := x0) dX1_in_0 rfl rfl rfl ?_
  refine z_iload_n (q := 2) (i := 1) (x := x1) dX1_in_1 rfl rfl rfl ?_
  have hk : z_V l G m_X1_in (z_Fm G m_X1_in Q) 0 0 h 15 [some (.int x0), some (.int x1), some (.int x2)] [.int (if x0 < x1 then 0 else (if x2 < x0 then 0 else 1))] := by
    exact z_zret dX1_in_15 rfl (z_nb01 (z_bif z_b0 (z_bif z_b0 z_b1))) hf
  refine z_icmp_lt (q := 5) (tgt := 14) dX1_in_2 rfl rfl (fun hc => ?_) (fun hc => ?_)
  · have hk := (z_ite hk).1 hc
    refine z_iconst (q := 15) (v := 0) dX1_in_14 rfl rfl ?_
    exact hk
  · have hk := (z_ite hk).2 hc
    refine z_iload_n (q := 6) (i := 0) (x := x0) dX1_in_5 rfl rfl rfl ?_
    refine z_iload_n (q := 7) (i := 2) (x := x2) dX1_in_6 rfl rfl rfl ?_
    refine z_icmp_gt (q := 10) (tgt := 14) dX1_in_7 rfl rfl (fun hc => ?_) (fun hc => ?_)
    · have hk := (z_ite hk).1 hc
      refine z_iconst (q := 15) (v := 0) dX1_in_14 rfl rfl ?_
      exact hk
    · have hk := (z_ite hk).2 hc
      refine z_iconst (q := 11) (v := 1) dX1_in_10 rfl rfl ?_
      refine z_goto (q := 15) dX1_in_11 rfl ?_
      exact hk

theorem u_X1_init {l : Launch} {G : z_G} {a0 : Nat} {h : z_H} {Q : z_Q} (hst : l.stackTraces = false)  (hf : ((h.nw (2, 1000)).T a0).1 = 10 ∧ z_Ct l G m_X2_init [.ref (h.n + 1)] (((h.nw (2, 1000)).sP a0 0 (some (h.n))).nw (11, 0)) (z_Qv (fun h_2 => (h_2.T a0).1 = 10 ∧ z_Ct l G m_X1_allOrders [] (h_2.sP a0 1 (some (h.n + 1))) (z_Qr (fun b_4 h_5 => (h_5.T a0).1 = 10 ∧ z_Ct l G m_X9_init [.ref (h_5.n), .ref a0] ((h_5.sP a0 2 (some b_4)).nw (17, 0)) (z_Qv (fun h_7 => (h_7.T a0).1 = 10 ∧ z_Ct l G m_X10_init [.ref (h_7.n)] ((h_7.sP a0 3 (some (h_5.n))).nw (18, 0)) (z_Qv (fun h_9 => (h_9.T a0).1 = 10 ∧ z_Ct l G m_J2_init [.ref (h_9.n), .int 2] ((h_9.sP a0 4 (some (h_7.n))).nw (31, 0)) (z_Qv (fun h_11 => (h_11.T a0).1 = 10 ∧ z_Ct l G m_X11_init [.ref (h_11.n)] ((h_11.sP a0 5 (some (h_9.n))).nw (19, 0)) (z_Qv (fun h_13 => (h_13.T a0).1 = 10 ∧ z_Ct l G m_X11_init [.ref (h_13.n)] ((h_13.sP a0 6 (some (h_11.n))).nw (19, 0)) (z_Qv (fun h_15 => (h_15.T a0).1 = 10 ∧ z_Ct l G m_X12_init [.ref (h_15.n)] ((h_15.sP a0 7 (some (h_13.n))).nw (20, 0)) (z_Qv (fun h_17 => (h_17.T a0).1 = 10 ∧ z_Ct l G m_X12_init [.ref (h_17.n)] ((h_17.sP a0 8 (some (h_15.n))).nw (20, 0)) (z_Qv (fun h_19 => (h_19.T a0).1 = 10 ∧ (((h_19.sP a0 9 (some (h_17.n))).nw (1, 4)).T a0).1 = 10 ∧ (((((h_19.sP a0 9 (some (h_17.n))).nw (1, 4)).sP a0 10 (some (h_19.n))).nw (7, 16)).T a0).1 = 10 ∧ (((((((h_19.sP a0 9 (some (h_17.n))).nw (1, 4)).sP a0 10 (some (h_19.n))).nw (7, 16)).sP a0 13 (some (h_19.n + 1))).nw (1, 24)).T a0).1 = 10 ∧ (((((((((h_19.sP a0 9 (some (h_17.n))).nw (1, 4)).sP a0 10 (some (h_19.n))).nw (7, 16)).sP a0 13 (some (h_19.n + 1))).nw (1, 24)).sP a0 15 (some (h_19.n + 2))).nw (1, 4)).T a0).1 = 10 ∧ (((((((((((h_19.sP a0 9 (some (h_17.n))).nw (1, 4)).sP a0 10 (some (h_19.n))).nw (7, 16)).sP a0 13 (some (h_19.n + 1))).nw (1, 24)).sP a0 15 (some (h_19.n + 2))).nw (1, 4)).sP a0 17 (some (h_19.n + 3))).nw (1, 6)).T a0).1 = 10 ∧ (((((((((((((h_19.sP a0 9 (some (h_17.n))).nw (1, 4)).sP a0 10 (some (h_19.n))).nw (7, 16)).sP a0 13 (some (h_19.n + 1))).nw (1, 24)).sP a0 15 (some (h_19.n + 2))).nw (1, 4)).sP a0 17 (some (h_19.n + 3))).nw (1, 6)).sP a0 18 (some (h_19.n + 4))).nw (7, 14)).T a0).1 = 10 ∧ (((((((((((((((h_19.sP a0 9 (some (h_17.n))).nw (1, 4)).sP a0 10 (some (h_19.n))).nw (7, 16)).sP a0 13 (some (h_19.n + 1))).nw (1, 24)).sP a0 15 (some (h_19.n + 2))).nw (1, 4)).sP a0 17 (some (h_19.n + 3))).nw (1, 6)).sP a0 18 (some (h_19.n + 4))).nw (7, 14)).sP a0 19 (some (h_19.n + 5))).nw (8, 4)).T a0).1 = 10 ∧ ∃ b_28, (((((((((((((((h_19.sP a0 9 (some (h_17.n))).nw (1, 4)).sP a0 10 (some (h_19.n))).nw (7, 16)).sP a0 13 (some (h_19.n + 1))).nw (1, 24)).sP a0 15 (some (h_19.n + 2))).nw (1, 4)).sP a0 17 (some (h_19.n + 3))).nw (1, 6)).sP a0 18 (some (h_19.n + 4))).nw (7, 14)).sP a0 19 (some (h_19.n + 5))).nw (8, 4)).P a0 6) = some b_28 ∧ z_L9 (((((((((((((((h_19.sP a0 9 (some (h_17.n))).nw (1, 4)).sP a0 10 (some (h_19.n))).nw (7, 16)).sP a0 13 (some (h_19.n + 1))).nw (1, 24)).sP a0 15 (some (h_19.n + 2))).nw (1, 4)).sP a0 17 (some (h_19.n + 3))).nw (1, 6)).sP a0 18 (some (h_19.n + 4))).nw (7, 14)).sP a0 19 (some (h_19.n + 5))).nw (8, 4)).sP a0 22 (some (h_19.n + 6))) b_28 ∧ z_Ct l G m_X11_begin [.ref b_28, .int 0] (((((((((((((((h_19.sP a0 9 (some (h_17.n))).nw (1, 4)).sP a0 10 (some (h_19.n))).nw (7, 16)).sP a0 13 (some (h_19.n + 1))).nw (1, 24)).sP a0 15 (some (h_19.n + 2))).nw (1, 4)).sP a0 17 (some (h_19.n + 3))).nw (1, 6)).sP a0 18 (some (h_19.n + 4))).nw (7, 14)).sP a0 19 (some (h_19.n + 5))).nw (8, 4)).sP a0 22 (some (h_19.n + 6))) (z_Qv (fun h_31 => Q none h_31))))))))))))))))))))) : z_Ct l G m_X1_init [.ref a0] h Q := by
  refine z_Ct.of (ls := [some (.ref a0)]) hst rfl (by decide +kernel) (z_le rfl) rfl ?_
  show z_V l G m_X1_init (z_Fm G m_X1_init Q) 59 19964 h 0 [some (.ref a0)] []
  refine z_aload_n (q := 1) (i := 0) (x := a0) dX1_init_0 rfl rfl rfl ?_
  refine z_objInit (q := 4) dX1_init_1 rfl q169 q170 q171 ⟨z_le rfl, z_le rfl⟩ (z_le rfl) ?_
  refine z_aload_n (q := 5) (i := 0) (x := a0) dX1_init_4 rfl rfl rfl ?_
  refine z_sipush (q := 8) (v := 1000) dX1_init_5 (by decide) rfl ?_
  refine z_newa 2 (q := 10) (N := 1000) (rc2 := 58) (rs2 := 18964) (z_lt rfl) (z_lt rfl) rfl q203 (by decide) rfl (z_le rfl) dX1_init_8 rfl rfl rfl ?_
  obtain ⟨g_1, hf⟩ := hf
  refine z_putP_F 0 0 (q := 13) (x := some (h.n)) (v := .ref (h.n)) rfl (z_lt rfl) g_1 q504 rfl rfl rfl dX1_init_10 rfl rfl rfl rfl (fun _ _ _ => rfl) ?_
  refine z_aload_n (q := 14) (i := 0) (x := a0) dX1_init_13 rfl rfl rfl ?_
  refine z_new 1 (q := 17) (rc2 := 57) (rs2 := 18956) rfl q172 q173 q123 dX1_init_14 rfl rfl rfl ?_
  refine z_dup (q := 18) dX1_init_17 rfl rfl ?_
  refine z_cINv m_X2_init [] ((h.n + 1)) (q := 21) (rc2 := 57) (rs2 := 18956) (st := [.ref (h.n + 1), .ref a0]) dX1_init_18 rfl (z_nwm q174 rfl) oI_X2_init rfl rfl ⟨z_le rfl, z_le rfl⟩ (z_le rfl) rfl  rfl hf (fun h_2 hf => ?_)
  obtain ⟨g_3, hf⟩ := hf
  refine z_putP_F 0 1 (q := 24) (x := some (h.n + 1)) (v := .ref (h.n + 1)) rfl (z_lt rfl) g_3 q505 rfl rfl rfl dX1_init_21 rfl rfl rfl rfl (fun _ _ _ => rfl) ?_
  refine z_aload_n (q := 25) (i := 0) (x := a0) dX1_init_24 rfl rfl rfl ?_
  refine z_cSr m_X1_allOrders [] (q := 28) (rc2 := 51) (rs2 := 18951) (st := [.ref a0]) dX1_init_25 rfl q204 oS_X1_allOrders rfl rfl ⟨z_le rfl, z_le rfl⟩ (z_le rfl) rfl  rfl hf (fun b_4 h_5 hf => ?_)
  obtain ⟨g_6, hf⟩ := hf
  refine z_putP_F 0 2 (q := 31) (x := some b_4) (v := .ref b_4) rfl (z_lt rfl) g_6 q507 rfl rfl rfl dX1_init_28 rfl rfl rfl rfl (fun _ _ _ => rfl) ?_
  refine z_aload_n (q := 32) (i := 0) (x := a0) dX1_init_31 rfl rfl rfl ?_
  refine z_new 7 (q := 35) (rc2 := 50) (rs2 := 18939) rfl q247 q248 q130 dX1_init_32 rfl rfl rfl ?_
  refine z_dup (q := 36) dX1_init_35 rfl rfl ?_
  refine z_aload_n (q := 37) (i := 0) (x := a0) dX1_init_36 rfl rfl rfl ?_
  refine z_cINv m_X9_init [.ref a0] ((h_5.n)) (q := 40) (rc2 := 44) (rs2 := 933) (st := [.ref (h_5.n), .ref a0]) dX1_init_37 rfl (z_nwm q249 rfl) oI_X9_init rfl rfl ⟨z_le rfl, z_le rfl⟩ (z_le rfl) rfl  rfl hf (fun h_7 hf => ?_)
  obtain ⟨g_8, hf⟩ := hf
  refine z_putP_F 0 3 (q := 43) (x := some (h_5.n)) (v := .ref (h_5.n)) rfl (z_lt rfl) g_8 q508 rfl rfl rfl dX1_init_40 rfl rfl rfl rfl (fun _ _ _ => rfl) ?_
  refine z_aload_n (q := 44) (i := 0) (x := a0) dX1_init_43 rfl rfl rfl ?_
  refine z_new 8 (q := 47) (rc2 := 43) (rs2 := 926) rfl q296 q297 q131 dX1_init_44 rfl rfl rfl ?_
  refine z_dup (q := 48) dX1_init_47 rfl rfl ?_
  refine z_cINv m_X10_init [] ((h_7.n)) (q := 51) (rc2 := 39) (rs2 := 903) (st := [.ref (h_7.n), .ref a0]) dX1_init_48 rfl (z_nwm q298 rfl) oI_X10_init rfl rfl ⟨z_le rfl, z_le rfl⟩ (z_le rfl) rfl  rfl hf (fun h_9 hf => ?_)
  obtain ⟨g_10, hf⟩ := hf
  refine z_putP 0 4 (q := 54) (x := some (h_7.n)) (v := .ref (h_7.n)) rfl (z_lt rfl) g_10 q510 rfl dX1_init_51 rfl rfl rfl rfl (fun _ _ _ => rfl) ?_
  refine z_aload_n (q := 55) (i := 0) (x := a0) dX1_init_54 rfl rfl rfl ?_
  refine z_new 21 (q := 58) (rc2 := 38) (rs2 := 900) rfl q362 q303 q134 dX1_init_55 rfl rfl rfl ?_
  refine z_dup (q := 59) dX1_init_58 rfl rfl ?_
  refine z_iconst (q := 60) (v := 2) dX1_init_59 rfl rfl ?_
  refine z_cIv m_J2_init [.int 2] ((h_9.n)) (q := 63) (rc2 := 37) (rs2 := 896) (st := [.ref (h_9.n), .ref a0]) dX1_init_60 rfl q363 oI_J2_init rfl rfl ⟨z_le rfl, z_le rfl⟩ (z_le rfl) rfl  rfl hf (fun h_11 hf => ?_)
  obtain ⟨g_12, hf⟩ := hf
  refine z_putP 0 5 (q := 66) (x := some (h_9.n)) (v := .ref (h_9.n)) rfl (z_lt rfl) g_12 q511 rfl dX1_init_63 rfl rfl rfl rfl (fun _ _ _ => rfl) ?_
  refine z_aload_n (q := 67) (i := 0) (x := a0) dX1_init_66 rfl rfl rfl ?_
  refine z_new 9 (q := 70) (rc2 := 36) (rs2 := 872) rfl q364 q365 q135 dX1_init_67 rfl rfl rfl ?_
  refine z_dup (q := 71) dX1_init_70 rfl rfl ?_
  refine z_cINv m_X11_init [] ((h_11.n)) (q := 74) (rc2 := 24) (rs2 := 510) (st := [.ref (h_11.n), .ref a0]) dX1_init_71 rfl (z_nwm q366 rfl) oI_X11_init rfl rfl ⟨z_le rfl, z_le rfl⟩ (z_le rfl) rfl  rfl hf (fun h_13 hf => ?_)
  obtain ⟨g_14, hf⟩ := hf
  refine z_putP_F 0 6 (q := 77) (x := some (h_11.n)) (v := .ref (h_11.n)) rfl (z_lt rfl) g_14 q512 rfl rfl rfl dX1_init_74 rfl rfl rfl rfl (fun _ _ _ => rfl) ?_
  refine z_aload_n (q := 78) (i := 0) (x := a0) dX1_init_77 rfl rfl rfl ?_
  refine z_new 9 (q := 81) (rc2 := 23) (rs2 := 486) rfl q364 q365 q135 dX1_init_78 rfl rfl rfl ?_
  refine z_dup (q := 82) dX1_init_81 rfl rfl ?_
  refine z_cINv m_X11_init [] ((h_13.n)) (q := 85) (rc2 := 11) (rs2 := 124) (st := [.ref (h_13.n), .ref a0]) dX1_init_82 rfl (z_nwm q366 rfl) oI_X11_init rfl rfl ⟨z_le rfl, z_le rfl⟩ (z_le rfl) rfl  rfl hf (fun h_15 hf => ?_)
  obtain ⟨g_16, hf⟩ := hf
  refine z_putP_F 0 7 (q := 88) (x := some (h_13.n)) (v := .ref (h_13.n)) rfl (z_lt rfl) g_16 q513 rfl rfl rfl dX1_init_85 rfl rfl rfl rfl (fun _ _ _ => rfl) ?_
  refine z_aload_n (q := 89) (i := 0) (x := a0) dX1_init_88 rfl rfl rfl ?_
  refine z_new 10 (q := 92) (rc2 := 10) (rs2 := 122) rfl q477 q478 q136 dX1_init_89 rfl rfl rfl ?_
  refine z_dup (q := 93) dX1_init_92 rfl rfl ?_
  refine z_cINv m_X12_init [] ((h_15.n)) (q := 96) (rc2 := 9) (rs2 := 98) (st := [.ref (h_15.n), .ref a0]) dX1_init_93 rfl (z_nwm q479 rfl) oI_X12_init rfl rfl ⟨z_le rfl, z_le rfl⟩ (z_le rfl) rfl  rfl hf (fun h_17 hf => ?_)
  obtain ⟨g_18, hf⟩ := hf
  refine z_putP_F 0 8 (q := 99) (x := some (h_15.n)) (v := .ref (h_15.n)) rfl (z_lt rfl) g_18 q514 rfl rfl rfl dX1_init_96 rfl rfl rfl rfl (fun _ _ _ => rfl) ?_
  refine z_aload_n (q := 100) (i := 0) (x := a0) dX1_init_99 rfl rfl rfl ?_
  refine z_new 10 (q := 103) (rc2 := 8) (rs2 := 96) rfl q477 q478 q136 dX1_init_100 rfl rfl rfl ?_
  refine z_dup (q := 104) dX1_init_103 rfl rfl ?_
  refine z_cINv m_X12_init [] ((h_17.n)) (q := 107) (rc2 := 7) (rs2 := 72) (st := [.ref (h_17.n), .ref a0]) dX1_init_104 rfl (z_nwm q479 rfl) oI_X12_init rfl rfl ⟨z_le rfl, z_le rfl⟩ (z_le rfl) rfl  rfl hf (fun h_19 hf => ?_)
  obtain ⟨g_20, hf⟩ := hf
  refine z_putP_F 0 9 (q := 110) (x := some (h_17.n)) (v := .ref (h_17.n)) rfl (z_lt rfl) g_20 q515 rfl rfl rfl dX1_init_107 rfl rfl rfl rfl (fun _ _ _ => rfl) ?_
  refine z_aload_n (q := 111) (i := 0) (x := a0) dX1_init_110 rfl rfl rfl ?_
  refine z_iconst (q := 112) (v := 4) dX1_init_111 rfl rfl ?_
  refine z_newa 1 (q := 114) (N := 4) (rc2 := 6) (rs2 := 68) (z_lt rfl) (z_lt rfl) rfl q295 (by decide) rfl (z_le rfl) dX1_init_112 rfl rfl rfl ?_
  obtain ⟨g_21, hf⟩ := hf
  refine z_putP_F 0 10 (q := 117) (x := some (h_19.n)) (v := .ref (h_19.n)) rfl (z_lt rfl) g_21 q516 rfl rfl rfl dX1_init_114 rfl rfl rfl rfl (fun _ _ _ => rfl) ?_
  refine z_aload_n (q := 118) (i := 0) (x := a0) dX1_init_117 rfl rfl rfl ?_
  refine z_bipush (q := 120) (v := 16) dX1_init_118 (by decide) rfl ?_
  refine z_newq 7 (q := 123) (N := 16) (rc2 := 5) (rs2 := 52) (by decide) rfl (by simp [z_ao]) q364 (by decide) rfl (z_le rfl) dX1_init_120 rfl rfl rfl ?_
  obtain ⟨g_22, hf⟩ := hf
  refine z_putP_F 0 13 (q := 126) (x := some (h_19.n + 1)) (v := .ref (h_19.n + 1)) rfl (z_lt rfl) g_22 q519 rfl rfl rfl dX1_init_123 rfl rfl rfl rfl (fun _ _ _ => rfl) ?_
  refine z_aload_n (q := 127) (i := 0) (x := a0) dX1_init_126 rfl rfl rfl ?_
  refine z_bipush (q := 129) (v := 24) dX1_init_127 (by decide) rfl ?_
  refine z_newa 1 (q := 131) (N := 24) (rc2 := 4) (rs2 := 28) (z_lt rfl) (z_lt rfl) rfl q295 (by decide) rfl (z_le rfl) dX1_init_129 rfl rfl rfl ?_
  obtain ⟨g_23, hf⟩ := hf
  refine z_putP_F 0 15 (q := 134) (x := some (h_19.n + 2)) (v := .ref (h_19.n + 2)) rfl (z_lt rfl) g_23 q521 rfl rfl rfl dX1_init_131 rfl rfl rfl rfl (fun _ _ _ => rfl) ?_
  refine z_aload_n (q := 135) (i := 0) (x := a0) dX1_init_134 rfl rfl rfl ?_
  refine z_iconst (q := 136) (v := 4) dX1_init_135 rfl rfl ?_
  refine z_newa 1 (q := 138) (N := 4) (rc2 := 3) (rs2 := 24) (z_lt rfl) (z_lt rfl) rfl q295 (by decide) rfl (z_le rfl) dX1_init_136 rfl rfl rfl ?_
  obtain ⟨g_24, hf⟩ := hf
  refine z_putP_F 0 17 (q := 141) (x := some (h_19.n + 3)) (v := .ref (h_19.n + 3)) rfl (z_lt rfl) g_24 q523 rfl rfl rfl dX1_init_138 rfl rfl rfl rfl (fun _ _ _ => rfl) ?_
  refine z_aload_n (q := 142) (i := 0) (x := a0) dX1_init_141 rfl rfl rfl ?_
  refine z_bipush (q := 144) (v := 6) dX1_init_142 (by decide) rfl ?_
  refine z_newa 1 (q := 146) (N := 6) (rc2 := 2) (rs2 := 18) (z_lt rfl) (z_lt rfl) rfl q295 (by decide) rfl (z_le rfl) dX1_init_144 rfl rfl rfl ?_
  obtain ⟨g_25, hf⟩ := hf
  refine z_putP_F 0 18 (q := 149) (x := some (h_19.n + 4)) (v := .ref (h_19.n + 4)) rfl (z_lt rfl) g_25 q524 rfl rfl rfl dX1_init_146 rfl rfl rfl rfl (fun _ _ _ => rfl) ?_
  refine z_aload_n (q := 150) (i := 0) (x := a0) dX1_init_149 rfl rfl rfl ?_
  refine z_bipush (q := 152) (v := 14) dX1_init_150 (by decide) rfl ?_
  refine z_newq 7 (q := 155) (N := 14) (rc2 := 1) (rs2 := 4) (by decide) rfl (by simp [z_ao]) q364 (by decide) rfl (z_le rfl) dX1_init_152 rfl rfl rfl ?_
  obtain ⟨g_26, hf⟩ := hf
  refine z_putP_F 0 19 (q := 158) (x := some (h_19.n + 5)) (v := .ref (h_19.n + 5)) rfl (z_lt rfl) g_26 q525 rfl rfl rfl dX1_init_155 rfl rfl rfl rfl (fun _ _ _ => rfl) ?_
  refine z_aload_n (q := 159) (i := 0) (x := a0) dX1_init_158 rfl rfl rfl ?_
  refine z_iconst (q := 160) (v := 4) dX1_init_159 rfl rfl ?_
  refine z_newq 8 (q := 163) (N := 4) (rc2 := 0) (rs2 := 0) (by decide) rfl (by simp [z_ao]) q494 (by decide) rfl (z_le rfl) dX1_init_160 rfl rfl rfl ?_
  obtain ⟨g_27, hf⟩ := hf
  refine z_putP_F 0 22 (q := 166) (x := some (h_19.n + 6)) (v := .ref (h_19.n + 6)) rfl (z_lt rfl) g_27 q528 rfl rfl rfl dX1_init_163 rfl rfl rfl rfl (fun _ _ _ => rfl) ?_
  refine z_aload_n (q := 167) (i := 0) (x := a0) dX1_init_166 rfl rfl rfl ?_
  obtain ⟨b_28, g_29, hf⟩ := hf
  refine z_get 0 6 (q := 170) (v := .ref b_28) rfl (z_lt rfl) g_27 q512 dX1_init_167 rfl (z_fvR (fun _ _ _ => rfl) (Eq.trans (z_rPf (by decide)) g_29)) ?_
  refine z_iconst (q := 171) (v := 0) dX1_init_170 rfl rfl ?_
  obtain ⟨g_30, hf⟩ := hf
  refine z_cVv m_X11_begin [.int 0] (b_28) (q := 174) (rc2 := 0) (rs2 := 0) (st := []) dX1_init_171 rfl q496 oV_X11_begin rfl rfl ⟨z_le rfl, z_le rfl⟩ (z_le rfl) (z_rcv_of 9 rfl (z_L9_T g_30) rfl) rfl  rfl hf (fun h_31 hf => ?_)
  exact z_vret dX1_init_174 rfl hf

theorem u_X1_isKind {l : Launch} {G : z_G} {a0 : Nat} {x1 : Int32} {h : z_H} {Q : z_Q} (hst : l.stackTraces = false)  (hf : z_L0 h a0 ∧ z_Ct l G m_X1_kinds [.ref a0] h (z_Qi (fun x_2 h_3 => z_Ct l G m_X1_in [.int x1, .int 0, .int (x_2 - 1)] h_3 (z_Qi (fun x_4 h_5 => (x_4 = 0 ∨ x_4 = 1) ∧ Q (some (.int x_4)) h_5))))) : z_Ct l G m_X1_isKind [.ref a0, .int x1] h Q := by
  refine z_Ct.of (ls := [some (.ref a0), some (.int x1)]) hst rfl (by decide +kernel) (z_le rfl) rfl ?_
  show z_V l G m_X1_isKind (z_Fm G m_X1_isKind Q) 0 0 h 0 [some (.ref a0), some (.int x1)] []
  refine z_iload_n (q := 1) (i := 1) (x := x1) dX1_isKind_0 rfl rfl rfl ?_
  refine z_iconst (q := 2) (v := 0) dX1_isKind_1 rfl rfl ?_
  refine z_aload_n (q := 3) (i := 0) (x := a0) dX1_isKind_2 rfl rfl rfl ?_
  obtain ⟨g_1, hf⟩ := hf
  refine z_cVi m_X1_kinds [] (a0) (q := 6) (rc2 := 0) (rs2 := 0) (st := [.int 0, .int x1]) dX1_isKind_3 rfl q1254 oV_X1_kinds rfl rfl ⟨z_le rfl, z_le rfl⟩ (z_le rfl) (z_rcv_of 0 rfl (z_L0_T g_1) rfl) rfl  rfl hf (fun x_2 h_3 hf => ?_)
  refine z_iconst (q := 7) (v := 1) dX1_isKind_6 rfl rfl ?_
  refine z_isub (q := 8) dX1_isKind_7 rfl ?_
  refine z_cSi m_X1_in [.int x1, .int 0, .int (x_2 - 1)] (q := 11) (rc2 := 0) (rs2 := 0) (st := []) dX1_isKind_8 rfl q1259 oS_X1_in rfl rfl ⟨z_le rfl, z_le rfl⟩ (z_le rfl) rfl  rfl hf (fun x_4 h_5 hf => ?_)
  obtain ⟨g_6, hf⟩ := hf
  exact z_zret dX1_isKind_11 rfl (z_nb01 g_6) hf

theorem u_X1_isSide {l : Launch} {G : z_G} {x0 : Int32} {h : z_H} {Q : z_Q} (hst : l.stackTraces = false)  (hf : z_Ct l G m_X1_in [.int x0, .int 0, .int 1] h (z_Qi (fun x_1 h_2 => (x_1 = 0 ∨ x_1 = 1) ∧ Q (some (.int x_1)) h_2))) : z_Ct l G m_X1_isSide [.int x0] h Q := by
  refine z_Ct.of (ls := [some (.int x0)]) hst rfl (by decide +kernel) (z_le rfl) rfl ?_
  show z_V l G m_X1_isSide (z_Fm G m_X1_isSide Q) 0 0 h 0 [some (.int x0)] []
  refine z_iload_n (q := 1) (i := 0) (x := x0) dX1_isSide_0 rfl rfl rfl ?_
  refine z_iconst (q := 2) (v := 0) dX1_isSide_1 rfl rfl ?_
  refine z_iconst (q := 3) (v := 1) dX1_isSide_2 rfl rfl ?_
  refine z_cSi m_X1_in [.int x0, .int 0, .int 1] (q := 6) (rc2 := 0) (rs2 := 0) (st := []) dX1_isSide_3 rfl q1259 oS_X1_in rfl rfl ⟨z_le rfl, z_le rfl⟩ (z_le rfl) rfl  rfl hf (fun x_1 h_2 hf => ?_)
  obtain ⟨g_3, hf⟩ := hf
  exact z_zret dX1_isSide_6 rfl (z_nb01 g_3) hf

theorem u_X1_keeps {l : Launch} {G : z_G} {a0 : Nat} {h : z_H} {Q : z_Q} (hst : l.stackTraces = false)  (hf : z_L0 h a0 ∧ ((h.I a0 14) = 16 → vp_in 0 16 ∧ ∃ b_3, (h.P (a0 + 54) (Int32.toNatClampNeg 0)) = some b_3 ∧ z_V l G m_X1_keeps (z_Fm G m_X1_keeps Q) 61 3458 h 18 [some (.ref a0), some (.ref b_3), some (.int 0)] []) ∧ (¬ (h.I a0 14) = 16 → z_V l G m_X1_keeps (z_Fm G m_X1_keeps Q) 61 3458 h 64 [some (.ref a0), none, none] [])) : z_Ct l G m_X1_keeps [.ref a0] h Q := by
  refine z_Ct.of (ls := [some (.ref a0), none, none]) hst rfl (by decide +kernel) (z_le rfl) rfl ?_
  show z_V l G m_X1_keeps (z_Fm G m_X1_keeps Q) 61 3458 h 0 [some (.ref a0), none, none] []
  refine z_aload_n (q := 1) (i := 0) (x := a0) dX1_keeps_0 rfl rfl rfl ?_
  obtain ⟨g_1, hf⟩ := hf
  refine z_get 0 14 (q := 4) (v := .int (h.I a0 14)) rfl (z_lt rfl) (z_L0_T g_1) q520 dX1_keeps_1 rfl rfl ?_
  refine z_bipush (q := 6) (v := 16) dX1_keeps_4 (by decide) rfl ?_
  refine z_icmp_ne (q := 9) (tgt := 64) dX1_keeps_6 rfl rfl (fun hc => ?_) (fun hc => ?_)
  · have hf := hf.2 hc
    exact hf
  · have hf := hf.1 hc
    refine z_aload_n (q := 10) (i := 0) (x := a0) dX1_keeps_9 rfl rfl rfl ?_
    refine z_get 0 13 (q := 13) (v := .ref (a0 + 54)) rfl (z_lt rfl) (z_L0_T g_1) q519 dX1_keeps_10 rfl (z_fvR (fun _ _ _ => rfl) (z_L0_P13 g_1)) ?_
    refine z_iconst (q := 14) (v := 0) dX1_keeps_13 rfl rfl ?_
    obtain ⟨g_2, hf⟩ := hf
    obtain ⟨b_3, g_4, hf⟩ := hf
    refine z_aald (q := 15) (n := 16) (v := .ref b_3) (z_L0_A13 g_1) (by decide) g_2 dX1_keeps_14 rfl (z_rfR g_4) ?_
    refine z_astore_n (q := 16) (i := 1) (ls2 := [some (.ref a0), some (.ref b_3), none]) (x := b_3) dX1_keeps_15 rfl (z_lt rfl) rfl rfl ?_
    refine z_iconst (q := 17) (v := 0) dX1_keeps_16 rfl rfl ?_
    refine z_istore_n (q := 18) (i := 2) (ls2 := [some (.ref a0), some (.ref b_3), some (.int 0)]) (x := 0) dX1_keeps_17 rfl (z_lt rfl) rfl rfl ?_
    exact hf

theorem b_X1_keeps_64 {l : Launch} {G : z_G} {rc rs : Nat} {a0 : Nat} {h : z_H} {Q : z_Q}  (hf : z_L0 h a0 ∧ vp_in (h.I a0 14) 16 ∧ ((h.P (a0 + 54) (Int32.toNatClampNeg (h.I a0 14))) = none → ∃ rc_5, rc = rc_5 + 1 ∧ ∃ rs_7, rs = rs_7 + 24 ∧ ∃ rc_9, rc_5 = rc_9 + 12 ∧ ∃ rs_11, rs_7 = rs_11 + 362 ∧ z_Ct l G m_X11_init [.ref (h.n)] (h.nw (19, 0)) (z_Qv (fun h_13 => ∃ n_14, h_13.T (a0 + 54) = (7, n_14) ∧ vp_in (h.I a0 14) n_14 ∧ z_L9 h_13 (h.n) ∧ z_L0 (h_13.sP (a0 + 54) (Int32.toNatClampNeg (h.I a0 14)) (some (h.n))) a0 ∧ vp_in (h_13.I a0 14) 16 ∧ ∃ b_20, ((h_13.sP (a0 + 54) (Int32.toNatClampNeg (h.I a0 14)) (some (h.n))).P (a0 + 54) (Int32.toNatClampNeg (h_13.I a0 14))) = some b_20 ∧ ∃ rc_22, rc_9 = rc_22 + 48 ∧ ∃ rs_24, rs_11 = rs_24 + 3072 ∧ z_L9 (h_13.sP (a0 + 54) (Int32.toNatClampNeg (h.I a0 14)) (some (h.n))) b_20 ∧ z_Ct l G m_X11_beWhole [.ref b_20, .ref (a0 + 23)] ((h_13.sP (a0 + 54) (Int32.toNatClampNeg (h.I a0 14)) (some (h.n))).sI a0 14 ((h_13.I a0 14) + 1)) (z_Qv (fun h_27 => Q none h_27))))) ∧ (∀ b_3, (h.P (a0 + 54) (Int32.toNatClampNeg (h.I a0 14))) = some b_3 → vp_in (h.I a0 14) 16 ∧ ∃ rc_29, rc = rc_29 + 48 ∧ ∃ rs_31, rs = rs_31 + 3072 ∧ z_L9 h b_3 ∧ z_Ct l G m_X11_beWhole [.ref b_3, .ref (a0 + 23)] (h.sI a0 14 ((h.I a0 14) + 1)) (z_Qv (fun h_34 => Q none h_34)))) : z_V l G m_X1_keeps (z_Fm G m_X1_keeps Q) rc rs h 64 [some (.ref a0), none, none] [] := by
  refine z_aload_n (q := 65) (i := 0) (x := a0) dX1_keeps_64 rfl rfl rfl ?_
  obtain ⟨g_1, hf⟩ := hf
  refine z_get 0 13 (q := 68) (v := .ref (a0 + 54)) rfl (z_lt rfl) (z_L0_T g_1) q519 dX1_keeps_65 rfl (z_fvR (fun _ _ _ => rfl) (z_L0_P13 g_1)) ?_
  refine z_aload_n (q := 69) (i := 0) (x := a0) dX1_keeps_68 rfl rfl rfl ?_
  refine z_get 0 14 (q := 72) (v := .int (h.I a0 14)) rfl (z_lt rfl) (z_L0_T g_1) q520 dX1_keeps_69 rfl rfl ?_
  obtain ⟨g_2, hf⟩ := hf
  refine z_aald (q := 73) (n := 16) (v := va_rf (h.P (a0 + 54) (Int32.toNatClampNeg (h.I a0 14)))) (z_L0_A13 g_1) (by decide) g_2 dX1_keeps_72 rfl rfl ?_
  rcases z_nn (h.P (a0 + 54) (Int32.toNatClampNeg (h.I a0 14))) with hn | ⟨b_3, g_4⟩
  · have hf := hf.1 hn
    refine z_topq hn ?_
    refine z_ifnonnullN (q := 76) dX1_keeps_73 rfl ?_
    refine z_aload_n (q := 77) (i := 0) (x := a0) dX1_keeps_76 rfl rfl rfl ?_
    refine z_get 0 13 (q := 80) (v := .ref (a0 + 54)) rfl (z_lt rfl) (z_L0_T g_1) q519 dX1_keeps_77 rfl (z_fvR (fun _ _ _ => rfl) (z_L0_P13 g_1)) ?_
    refine z_aload_n (q := 81) (i := 0) (x := a0) dX1_keeps_80 rfl rfl rfl ?_
    refine z_get 0 14 (q := 84) (v := .int (h.I a0 14)) rfl (z_lt rfl) (z_L0_T g_1) q520 dX1_keeps_81 rfl rfl ?_
    obtain ⟨rc_5, g_6, hf⟩ := hf
    obtain ⟨rs_7, g_8, hf⟩ := hf
    refine z_new 9 (q := 87) (rc2 := rc_5) (rs2 := rs_7) rfl q364 q365 q135 dX1_keeps_84 rfl g_6 g_8 ?_
    refine z_dup (q := 88) dX1_keeps_87 rfl rfl ?_
    obtain ⟨rc_9, g_10, hf⟩ := hf
    obtain ⟨rs_11, g_12, hf⟩ := hf
    refine z_cINv m_X11_init [] ((h.n)) (q := 91) (rc2 := rc_9) (rs2 := rs_11) (st := [.ref (h.n), .int (h.I a0 14), .ref (a0 + 54)]) dX1_keeps_88 rfl (z_nwm q366 rfl) oI_X11_init rfl rfl ⟨z_le rfl, z_le rfl⟩ (z_le rfl) g_10  g_12 hf (fun h_13 hf => ?_)
    obtain ⟨n_14, g_15, hf⟩ := hf
    obtain ⟨g_16, hf⟩ := hf
    obtain ⟨g_17, hf⟩ := hf
    refine z_aast (q := 92) (n := n_14) g_15 (by decide) (z_L9_T g_17) ⟨_, rfl, _, rfl, Or.inl rfl⟩ g_16 dX1_keeps_91 rfl ?_
    refine z_aload_n (q := 93) (i := 0) (x := a0) dX1_keeps_92 rfl rfl rfl ?_
    obtain ⟨g_18, hf⟩ := hf
    refine z_get 0 13 (q := 96) (v := .ref (a0 + 54)) rfl (z_lt rfl) (z_L0_T g_18) q519 dX1_keeps_93 rfl (z_fvR (fun _ _ _ => rfl) (z_L0_P13 g_18)) ?_
    refine z_aload_n (q := 97) (i := 0) (x := a0) dX1_keeps_96 rfl rfl rfl ?_
    refine z_dup (q := 98) dX1_keeps_97 rfl rfl ?_
    refine z_get 0 14 (q := 101) (v := .int (h_13.I a0 14)) rfl (z_lt rfl) (z_L0_T g_18) q520 dX1_keeps_98 rfl rfl ?_
    refine z_dup_x1 (q := 102) dX1_keeps_101 rfl rfl rfl ?_
    refine z_iconst (q := 103) (v := 1) dX1_keeps_102 rfl rfl ?_
    refine z_iadd (q := 104) dX1_keeps_103 rfl ?_
    refine z_putI 0 14 (q := 107) (x := ((h_13.I a0 14) + 1)) (v := .int ((h_13.I a0 14) + 1)) rfl (z_lt rfl) (z_L0_T g_18) q520 rfl dX1_keeps_104 rfl rfl rfl rfl (fun _ _ _ => rfl) ?_
    obtain ⟨g_19, hf⟩ := hf
    obtain ⟨b_20, g_21, hf⟩ := hf
    refine z_aald (q := 108) (n := 16) (v := .ref b_20) (z_L0_A13 g_18) (by decide) g_19 dX1_keeps_107 rfl (z_rfR g_21) ?_
    refine z_aload_n (q := 109) (i := 0) (x := a0) dX1_keeps_108 rfl rfl rfl ?_
    refine z_get 0 6 (q := 112) (v := .ref (a0 + 23)) rfl (z_lt rfl) (z_L0_T g_18) q512 dX1_keeps_109 rfl (z_fvR (fun _ _ _ => rfl) (z_L0_P6 g_18)) ?_
    obtain ⟨rc_22, g_23, hf⟩ := hf
    obtain ⟨rs_24, g_25, hf⟩ := hf
    obtain ⟨g_26, hf⟩ := hf
    refine z_cVv m_X11_beWhole [.ref (a0 + 23)] (b_20) (q := 115) (rc2 := rc_22) (rs2 := rs_24) (st := []) dX1_keeps_112 rfl q1295 oV_X11_beWhole rfl rfl ⟨z_le rfl, z_le rfl⟩ (z_le rfl) (z_rcv_of 9 rfl (z_L9_T g_26) rfl) g_23  g_25 hf (fun h_27 hf => ?_)
    exact z_vret dX1_keeps_115 rfl hf
  · have hf := hf.2 b_3 g_4
    refine z_topq g_4 ?_
    refine z_ifnonnull (q := 92) dX1_keeps_73 rfl ?_
    refine z_aload_n (q := 93) (i := 0) (x := a0) dX1_keeps_92 rfl rfl rfl ?_
    refine z_get 0 13 (q := 96) (v := .ref (a0 + 54)) rfl (z_lt rfl) (z_L0_T g_1) q519 dX1_keeps_93 rfl (z_fvR (fun _ _ _ => rfl) (z_L0_P13 g_1)) ?_
    refine z_aload_n (q := 97) (i := 0) (x := a0) dX1_keeps_96 rfl rfl rfl ?_
    refine z_dup (q := 98) dX1_keeps_97 rfl rfl ?_
    refine z_get 0 14 (q := 101) (v := .int (h.I a0 14)) rfl (z_lt rfl) (z_L0_T g_1) q520 dX1_keeps_98 rfl rfl ?_
    refine z_dup_x1 (q := 102) dX1_keeps_101 rfl rfl rfl ?_
    refine z_iconst (q := 103) (v := 1) dX1_keeps_102 rfl rfl ?_
    refine z_iadd (q := 104) dX1_keeps_103 rfl ?_
    refine z_putI 0 14 (q := 107) (x := ((h.I a0 14) + 1)) (v := .int ((h.I a0 14) + 1)) rfl (z_lt rfl) (z_L0_T g_1) q520 rfl dX1_keeps_104 rfl rfl rfl rfl (fun _ _ _ => rfl) ?_
    obtain ⟨g_28, hf⟩ := hf
    refine z_aald (q := 108) (n := 16) (v := .ref b_3) (z_L0_A13 g_1) (by decide) g_28 dX1_keeps_107 rfl (z_rfR g_4) ?_
    refine z_aload_n (q := 109) (i := 0) (x := a0) dX1_keeps_108 rfl rfl rfl ?_
    refine z_get 0 6 (q := 112) (v := .ref (a0 + 23)) rfl (z_lt rfl) (z_L0_T g_1) q512 dX1_keeps_109 rfl (z_fvR (fun _ _ _ => rfl) (z_L0_P6 g_1)) ?_
    obtain ⟨rc_29, g_30, hf⟩ := hf
    obtain ⟨rs_31, g_32, hf⟩ := hf
    obtain ⟨g_33, hf⟩ := hf
    refine z_cVv m_X11_beWhole [.ref (a0 + 23)] (b_3) (q := 115) (rc2 := rc_29) (rs2 := rs_31) (st := []) dX1_keeps_112 rfl q1295 oV_X11_beWhole rfl rfl ⟨z_le rfl, z_le rfl⟩ (z_le rfl) (z_rcv_of 9 rfl (z_L9_T g_33) rfl) g_30  g_32 hf (fun h_34 hf => ?_)
    exact z_vret dX1_keeps_115 rfl hf

theorem b_X1_keeps_18 {l : Launch} {G : z_G} {rc rs : Nat} {a0 : Nat} {a1 : Nat} {x2 : Int32} {h : z_H} {Q : z_Q}  (hf : (16 ≤ (x2 + 1) → z_L0 h a0 ∧ vp_in 15 16 ∧ z_L9 h a1 ∧ z_L0 (h.sP (a0 + 54) (Int32.toNatClampNeg 15) (some a1)) a0 ∧ z_V l G m_X1_keeps (z_Fm G m_X1_keeps Q) rc rs ((h.sP (a0 + 54) (Int32.toNatClampNeg 15) (some a1)).sI a0 14 ((h.I a0 14) - 1)) 64 [some (.ref a0), none, none] []) ∧ (¬ 16 ≤ (x2 + 1) → z_L0 h a0 ∧ vp_in (x2 + 1) 16 ∧ ∃ b_7, (h.P (a0 + 54) (Int32.toNatClampNeg (x2 + 1))) = some b_7 ∧ vp_in x2 16 ∧ z_L9 h b_7 ∧ z_V l G m_X1_keeps (z_Fm G m_X1_keeps Q) rc rs (h.sP (a0 + 54) (Int32.toNatClampNeg x2) (some b_7)) 18 [some (.ref a0), some (.ref a1), some (.int (x2 + 1))] [])) : z_V l G m_X1_keeps (z_Fm G m_X1_keeps Q) rc rs h 18 [some (.ref a0), some (.ref a1), some (.int x2)] [] := by
  refine z_iload_n (q := 19) (i := 2) (x := x2) dX1_keeps_18 rfl rfl rfl ?_
  refine z_iconst (q := 20) (v := 1) dX1_keeps_19 rfl rfl ?_
  refine z_iadd (q := 21) dX1_keeps_20 rfl ?_
  refine z_bipush (q := 23) (v := 16) dX1_keeps_21 (by decide) rfl ?_
  refine z_icmp_ge (q := 26) (tgt := 46) dX1_keeps_23 rfl rfl (fun hc => ?_) (fun hc => ?_)
  · have hf := hf.1 hc
    refine z_aload_n (q := 47) (i := 0) (x := a0) dX1_keeps_46 rfl rfl rfl ?_
    obtain ⟨g_1, hf⟩ := hf
    refine z_get 0 13 (q := 50) (v := .ref (a0 + 54)) rfl (z_lt rfl) (z_L0_T g_1) q519 dX1_keeps_47 rfl (z_fvR (fun _ _ _ => rfl) (z_L0_P13 g_1)) ?_
    refine z_bipush (q := 52) (v := 15) dX1_keeps_50 (by decide) rfl ?_
    refine z_aload_n (q := 53) (i := 1) (x := a1) dX1_keeps_52 rfl rfl rfl ?_
    obtain ⟨g_2, hf⟩ := hf
    obtain ⟨g_3, hf⟩ := hf
    refine z_aast (q := 54) (n := 16) (z_L0_A13 g_1) (by decide) (z_L9_T g_3) ⟨_, rfl, _, rfl, Or.inl rfl⟩ g_2 dX1_keeps_53 rfl ?_
    refine z_aload_n (q := 55) (i := 0) (x := a0) dX1_keeps_54 rfl rfl rfl ?_
    refine z_dup (q := 56) dX1_keeps_55 rfl rfl ?_
    obtain ⟨g_4, hf⟩ := hf
    refine z_get 0 14 (q := 59) (v := .int (h.I a0 14)) rfl (z_lt rfl) (z_L0_T g_4) q520 dX1_keeps_56 rfl rfl ?_
    refine z_iconst (q := 60) (v := 1) dX1_keeps_59 rfl rfl ?_
    refine z_isub (q := 61) dX1_keeps_60 rfl ?_
    refine z_putI 0 14 (q := 64) (x := ((h.I a0 14) - 1)) (v := .int ((h.I a0 14) - 1)) rfl (z_lt rfl) (z_L0_T g_4) q520 rfl dX1_keeps_61 rfl rfl rfl rfl (fun _ _ _ => rfl) ?_
    refine z_prune [true, false, false] (ls2 := [some (.ref a0), none, none]) rfl ?_
    exact hf
  · have hf := hf.2 hc
    refine z_aload_n (q := 27) (i := 0) (x := a0) dX1_keeps_26 rfl rfl rfl ?_
    obtain ⟨g_5, hf⟩ := hf
    refine z_get 0 13 (q := 30) (v := .ref (a0 + 54)) rfl (z_lt rfl) (z_L0_T g_5) q519 dX1_keeps_27 rfl (z_fvR (fun _ _ _ => rfl) (z_L0_P13 g_5)) ?_
    refine z_iload_n (q := 31) (i := 2) (x := x2) dX1_keeps_30 rfl rfl rfl ?_
    refine z_aload_n (q := 32) (i := 0) (x := a0) dX1_keeps_31 rfl rfl rfl ?_
    refine z_get 0 13 (q := 35) (v := .ref (a0 + 54)) rfl (z_lt rfl) (z_L0_T g_5) q519 dX1_keeps_32 rfl (z_fvR (fun _ _ _ => rfl) (z_L0_P13 g_5)) ?_
    refine z_iload_n (q := 36) (i := 2) (x := x2) dX1_keeps_35 rfl rfl rfl ?_
    refine z_iconst (q := 37) (v := 1) dX1_keeps_36 rfl rfl ?_
    refine z_iadd (q := 38) dX1_keeps_37 rfl ?_
    obtain ⟨g_6, hf⟩ := hf
    obtain ⟨b_7, g_8, hf⟩ := hf
    refine z_aald (q := 39) (n := 16) (v := .ref b_7) (z_L0_A13 g_5) (by decide) g_6 dX1_keeps_38 rfl (z_rfR g_8) ?_
    obtain ⟨g_9, hf⟩ := hf
    obtain ⟨g_10, hf⟩ := hf
    refine z_aast (q := 40) (n := 16) (z_L0_A13 g_5) (by decide) (z_L9_T g_10) ⟨_, rfl, _, rfl, Or.inl rfl⟩ g_9 dX1_keeps_39 rfl ?_
    refine z_iinc (q := 43) (i := 2) (x := x2) (v := (x2 + 1)) (ls2 := [some (.ref a0), some (.ref a1), some (.int (x2 + 1))]) dX1_keeps_40 rfl rfl (z_lt rfl) rfl rfl ?_
    refine z_goto (q := 18) dX1_keeps_43 rfl ?_
    exact hf

theorem u_X1_kind {l : Launch} {G : z_G} {a0 : Nat} {x1 : Int32} {x2 : Int32} {h : z_H} {Q : z_Q} (hst : l.stackTraces = false)  (hf : z_L0 h a0 ∧ z_Ct l G m_X1_isKind [.ref a0, .int x1] h (z_Qi (fun x_2 h_3 => (x_2 = 0 → Q (some (.int (-1))) h_3) ∧ (¬ x_2 = 0 → z_Ct l G m_X1_in [.int x2, .int 0, .int 4] h_3 (z_Qi (fun x_4 h_5 => (x_4 = 0 → Q (some (.int (-1))) h_5) ∧ (¬ x_4 = 0 → (2 ≤ x2 → (x2 = 4 → z_V l G m_X1_kind (z_Fm G m_X1_kind Q) 0 0 h_5 60 [some (.ref a0), some (.int x1), none, some (.int 0), some (.int 0)] []) ∧ (¬ x2 = 4 → z_V l G m_X1_kind (z_Fm G m_X1_kind Q) 0 0 h_5 106 [some (.ref a0), some (.int x1), some (.int x2), some (.int 0), some (.int 0)] [])) ∧ (¬ 2 ≤ x2 → (x2 = 0 → z_L0 h_5 a0 ∧ ∃ b_15, (h_5.P a0 4) = some b_15 ∧ z_L8 h_5 b_15 ∧ vp_in x1 8 ∧ Q (some (.int (h_5.I (b_15 + 3) (Int32.toNatClampNeg x1)))) h_5) ∧ (¬ x2 = 0 → z_L0 h_5 a0 ∧ ∃ b_10, (h_5.P a0 4) = some b_10 ∧ z_L8 h_5 b_10 ∧ vp_in x1 8 ∧ Q (some (.int (h_5.I (b_10 + 4) (Int32.toNatClampNeg x1)))) h_5))))))))) : z_Ct l G m_X1_kind [.ref a0, .int x1, .int x2] h Q := by
  refine z_Ct.of (ls := [some (.ref a0), some (.int x1), some (.int x2), none, none]) hst rfl (by decide +kernel) (z_le rfl) rfl ?_
  show z_V l G m_X1_kind (z_Fm G m_X1_kind Q) 0 0 h 0 [some (.ref a0), some (.int x1), some (.int x2), none, none] []
  refine z_aload_n (q := 1) (i := 0) (x := a0) dX1_kind_0 rfl rfl rfl ?_
  refine z_iload_n (q := 2) (i := 1) (x := x1) dX1_kind_1 rfl rfl rfl ?_
  obtain ⟨g_1, hf⟩ := hf
  refine z_cVi m_X1_isKind [.int x1] (a0) (q := 5) (rc2 := 0) (rs2 := 0) (st := []) dX1_kind_2 rfl q1250 oV_X1_isKind rfl rfl ⟨z_le rfl, z_le rfl⟩ (z_le rfl) (z_rcv_of 0 rfl (z_L0_T g_1) rfl) rfl  rfl hf (fun x_2 h_3 hf => ?_)
  refine z_if_eq (q := 8) (tgt := 17) dX1_kind_5 rfl rfl (fun hc => ?_) (fun hc => ?_)
  · have hf := hf.1 hc
    refine z_iconst (q := 18) (v := (-1)) dX1_kind_17 rfl rfl ?_
    exact z_iret dX1_kind_18 rfl hf
  · have hf := hf.2 hc
    refine z_iload_n (q := 9) (i := 2) (x := x2) dX1_kind_8 rfl rfl rfl ?_
    refine z_iconst (q := 10) (v := 0) dX1_kind_9 rfl rfl ?_
    refine z_iconst (q := 11) (v := 4) dX1_kind_10 rfl rfl ?_
    refine z_cSi m_X1_in [.int x2, .int 0, .int 4] (q := 14) (rc2 := 0) (rs2 := 0) (st := []) dX1_kind_11 rfl q1259 oS_X1_in rfl rfl ⟨z_le rfl, z_le rfl⟩ (z_le rfl) rfl  rfl hf (fun x_4 h_5 hf => ?_)
    refine z_if_ne (q := 17) (tgt := 19) dX1_kind_14 rfl rfl (fun hc => ?_) (fun hc => ?_)
    · have hf := hf.2 hc
      refine z_iload_n (q := 20) (i := 2) (x := x2) dX1_kind_19 rfl rfl rfl ?_
      refine z_iconst (q := 21) (v := 2) dX1_kind_20 rfl rfl ?_
      refine z_icmp_ge (q := 24) (tgt := 50) dX1_kind_21 rfl rfl (fun hc => ?_) (fun hc => ?_)
      · have hf := hf.1 hc
        refine z_iconst (q := 51) (v := 0) dX1_kind_50 rfl rfl ?_
        refine z_istore_n (q := 52) (i := 3) (ls2 := [some (.ref a0), some (.int x1), some (.int x2), some (.int 0), none]) (x := 0) dX1_kind_51 rfl (z_lt rfl) rfl rfl ?_
        refine z_iload_n (q := 53) (i := 2) (x := x2) dX1_kind_52 rfl rfl rfl ?_
        refine z_iconst (q := 54) (v := 4) dX1_kind_53 rfl rfl ?_
        refine z_icmp_ne (q := 57) (tgt := 103) dX1_kind_54 rfl rfl (fun hc => ?_) (fun hc => ?_)
        · have hf := hf.2 hc
          refine z_iconst (q := 104) (v := 0) dX1_kind_103 rfl rfl ?_
          refine z_istore (q := 106) (i := 4) (ls2 := [some (.ref a0), some (.int x1), some (.int x2), some (.int 0), some (.int 0)]) (x := 0) dX1_kind_104 (z_lt rfl) rfl rfl ?_
          exact hf
        · have hf := hf.1 hc
          refine z_iconst (q := 58) (v := 0) dX1_kind_57 rfl rfl ?_
          refine z_istore (q := 60) (i := 4) (ls2 := [some (.ref a0), some (.int x1), some (.int x2), some (.int 0), some (.int 0)]) (x := 0) dX1_kind_58 (z_lt rfl) rfl rfl ?_
          refine z_prune [true, true, false, true, true] (ls2 := [some (.ref a0), some (.int x1), none, some (.int 0), some (.int 0)]) rfl ?_
          exact hf
      · have hf := hf.2 hc
        refine z_iload_n (q := 25) (i := 2) (x := x2) dX1_kind_24 rfl rfl rfl ?_
        refine z_if_ne (q := 28) (tgt := 40) dX1_kind_25 rfl rfl (fun hc => ?_) (fun hc => ?_)
        · have hf := hf.2 hc
          refine z_aload_n (q := 41) (i := 0) (x := a0) dX1_kind_40 rfl rfl rfl ?_
          obtain ⟨g_9, hf⟩ := hf
          obtain ⟨b_10, g_11, hf⟩ := hf
          refine z_get 0 4 (q := 44) (v := .ref b_10) rfl (z_lt rfl) (z_L0_T g_9) q510 dX1_kind_41 rfl (z_fvR (fun _ _ _ => rfl) g_11) ?_
          obtain ⟨g_12, hf⟩ := hf
          refine z_getN 8 2 (q := 47) (v := .ref (b_10 + 4)) rfl (z_lt rfl) (z_L8_T g_12) (z_nwm q338 rfl) dX1_kind_44 rfl (z_fvR (fun _ _ _ => rfl) (z_L8_P2 g_12)) ?_
          refine z_iload_n (q := 48) (i := 1) (x := x1) dX1_kind_47 rfl rfl rfl ?_
          obtain ⟨g_13, hf⟩ := hf
          refine z_iald (q := 49) (n := 8) (z_L8_A2 g_12) g_13 dX1_kind_48 rfl ?_
          exact z_iret dX1_kind_49 rfl hf
        · have hf := hf.1 hc
          refine z_aload_n (q := 29) (i := 0) (x := a0) dX1_kind_28 rfl rfl rfl ?_
          obtain ⟨g_14, hf⟩ := hf
          obtain ⟨b_15, g_16, hf⟩ := hf
          refine z_get 0 4 (q := 32) (v := .ref b_15) rfl (z_lt rfl) (z_L0_T g_14) q510 dX1_kind_29 rfl (z_fvR (fun _ _ _ => rfl) g_16) ?_
          obtain ⟨g_17, hf⟩ := hf
          refine z_getN 8 1 (q := 35) (v := .ref (b_15 + 3)) rfl (z_lt rfl) (z_L8_T g_17) (z_nwm q334 rfl) dX1_kind_32 rfl (z_fvR (fun _ _ _ => rfl) (z_L8_P1 g_17)) ?_
          refine z_iload_n (q := 36) (i := 1) (x := x1) dX1_kind_35 rfl rfl rfl ?_
          obtain ⟨g_18, hf⟩ := hf
          refine z_iald (q := 37) (n := 8) (z_L8_A1 g_17) g_18 dX1_kind_36 rfl ?_
          refine z_goto (q := 49) dX1_kind_37 rfl ?_
          exact z_iret dX1_kind_49 rfl hf
    · have hf := hf.1 hc
      refine z_iconst (q := 18) (v := (-1)) dX1_kind_17 rfl rfl ?_
      exact z_iret dX1_kind_18 rfl hf

theorem b_X1_kind_106 {l : Launch} {G : z_G} {a0 : Nat} {x1 : Int32} {x2 : Int32} {x3 : Int32} {x4 : Int32} {h : z_H} {Q : z_Q}  (hf : z_L0 h a0 ∧ z_Ct l G m_X11_cards [.ref (a0 + 23), .int (x2 - 2)] h (z_Qi (fun x_2 h_3 => (x_2 ≤ x4 → Q (some (.int x3)) h_3) ∧ (¬ x_2 ≤ x4 → z_L0 h_3 a0 ∧ z_Ct l G m_X11_card [.ref (a0 + 23), .int (x2 - 2), .int x4] h_3 (z_Qi (fun x_5 h_6 => ∀ v_7 : Int32, v_7 = (x3 + (if x_5 = x1 then 1 else 0)) → z_V l G m_X1_kind (z_Fm G m_X1_kind Q) 0 0 h_6 106 [some (.ref a0), some (.int x1), some (.int x2), some (.int v_7), some (.int (x4 + 1))] [])))))) : z_V l G m_X1_kind (z_Fm G m_X1_kind Q) 0 0 h 106 [some (.ref a0), some (.int x1), some (.int x2), some (.int x3), some (.int x4)] [] := by
  refine z_iload (q := 108) (i := 4) (x := x4) dX1_kind_106 rfl rfl ?_
  refine z_aload_n (q := 109) (i := 0) (x := a0) dX1_kind_108 rfl rfl rfl ?_
  obtain ⟨g_1, hf⟩ := hf
  refine z_get 0 6 (q := 112) (v := .ref (a0 + 23)) rfl (z_lt rfl) (z_L0_T g_1) q512 dX1_kind_109 rfl (z_fvR (fun _ _ _ => rfl) (z_L0_P6 g_1)) ?_
  refine z_iload_n (q := 113) (i := 2) (x := x2) dX1_kind_112 rfl rfl rfl ?_
  refine z_iconst (q := 114) (v := 2) dX1_kind_113 rfl rfl ?_
  refine z_isub (q := 115) dX1_kind_114 rfl ?_
  refine z_cVi m_X11_cards [.int (x2 - 2)] ((a0 + 23)) (q := 118) (rc2 := 0) (rs2 := 0) (st := [.int x4]) dX1_kind_115 rfl q1262 oV_X11_cards rfl rfl ⟨z_le rfl, z_le rfl⟩ (z_le rfl) (z_rcv_of 9 rfl (z_L9_T (z_L0_N6 g_1)) rfl) rfl  rfl hf (fun x_2 h_3 hf => ?_)
  refine z_icmp_ge (q := 121) (tgt := 151) dX1_kind_118 rfl rfl (fun hc => ?_) (fun hc => ?_)
  · have hf := hf.1 hc
    refine z_iload_n (q := 152) (i := 3) (x := x3) dX1_kind_151 rfl rfl rfl ?_
    exact z_iret dX1_kind_152 rfl hf
  · have hf := hf.2 hc
    refine z_iload_n (q := 122) (i := 3) (x := x3) dX1_kind_121 rfl rfl rfl ?_
    refine z_aload_n (q := 123) (i := 0) (x := a0) dX1_kind_122 rfl rfl rfl ?_
    obtain ⟨g_4, hf⟩ := hf
    refine z_get 0 6 (q := 126) (v := .ref (a0 + 23)) rfl (z_lt rfl) (z_L0_T g_4) q512 dX1_kind_123 rfl (z_fvR (fun _ _ _ => rfl) (z_L0_P6 g_4)) ?_
    refine z_iload_n (q := 127) (i := 2) (x := x2) dX1_kind_126 rfl rfl rfl ?_
    refine z_iconst (q := 128) (v := 2) dX1_kind_127 rfl rfl ?_
    refine z_isub (q := 129) dX1_kind_128 rfl ?_
    refine z_iload (q := 131) (i := 4) (x := x4) dX1_kind_129 rfl rfl ?_
    refine z_cVi m_X11_card [.int (x2 - 2), .int x4] ((a0 + 23)) (q := 134) (rc2 := 0) (rs2 := 0) (st := [.int x3]) dX1_kind_131 rfl q1266 oV_X11_card rfl rfl ⟨z_le rfl, z_le rfl⟩ (z_le rfl) (z_rcv_of 9 rfl (z_L9_T (z_L0_N6 g_4)) rfl) rfl  rfl hf (fun x_5 h_6 hf => ?_)
    refine z_iload_n (q := 135) (i := 1) (x := x1) dX1_kind_134 rfl rfl rfl ?_
    have hk : z_V l G m_X1_kind (z_Fm G m_X1_kind Q) 0 0 h_6 143 [some (.ref a0), some (.int x1), some (.int x2), some (.int x3), some (.int x4)] [.int (if x_5 = x1 then 1 else 0), .int x3] := by
      refine z_iadd (q := 144) dX1_kind_143 rfl ?_
      refine z_nmI (fun v_7 hv_8 => ?_)
      have hf := hf v_7 hv_8
      refine z_istore_n (q := 145) (i := 3) (ls2 := [some (.ref a0), some (.int x1), some (.int x2), some (.int v_7), some (.int x4)]) (x := v_7) dX1_kind_144 rfl (z_lt rfl) rfl rfl ?_
      refine z_iinc (q := 148) (i := 4) (x := x4) (v := (x4 + 1)) (ls2 := [some (.ref a0), some (.int x1), some (.int x2), some (.int v_7), some (.int (x4 + 1))]) dX1_kind_145 rfl rfl (z_lt rfl) rfl rfl ?_
      refine z_goto (q := 106) dX1_kind_148 rfl ?_
      exact hf
    refine z_icmp_ne (q := 138) (tgt := 142) dX1_kind_135 rfl rfl (fun hc => ?_) (fun hc => ?_)
    · have hk := (z_ite hk).2 hc
      refine z_iconst (q := 143) (v := 0) dX1_kind_142 rfl rfl ?_
      exact hk
    · have hk := (z_ite hk).1 hc
      refine z_iconst (q := 139) (v := 1) dX1_kind_138 rfl rfl ?_
      refine z_goto (q := 143) dX1_kind_139 rfl ?_
      exact hk

theorem b_X1_kind_60 {l : Launch} {G : z_G} {a0 : Nat} {x1 : Int32} {x3 : Int32} {x4 : Int32} {h : z_H} {Q : z_Q}  (hf : z_L0 h a0 ∧ ((h.I (a0 + 23) 8) ≤ x4 → Q (some (.int x3)) h) ∧ (¬ (h.I (a0 + 23) 8) ≤ x4 → vp_in x4 48 ∧ ∀ v_3 : Int32, v_3 = (x3 + (if (h.I (a0 + 26) (Int32.toNatClampNeg x4)) = x1 then 1 else 0)) → z_V l G m_X1_kind (z_Fm G m_X1_kind Q) 0 0 h 60 [some (.ref a0), some (.int x1), none, some (.int v_3), some (.int (x4 + 1))] [])) : z_V l G m_X1_kind (z_Fm G m_X1_kind Q) 0 0 h 60 [some (.ref a0), some (.int x1), none, some (.int x3), some (.int x4)] [] := by
  refine z_iload (q := 62) (i := 4) (x := x4) dX1_kind_60 rfl rfl ?_
  refine z_aload_n (q := 63) (i := 0) (x := a0) dX1_kind_62 rfl rfl rfl ?_
  obtain ⟨g_1, hf⟩ := hf
  refine z_get 0 6 (q := 66) (v := .ref (a0 + 23)) rfl (z_lt rfl) (z_L0_T g_1) q512 dX1_kind_63 rfl (z_fvR (fun _ _ _ => rfl) (z_L0_P6 g_1)) ?_
  refine z_getN 9 8 (q := 69) (v := .int (h.I (a0 + 23) 8)) rfl (z_lt rfl) (z_L9_T (z_L0_N6 g_1)) (z_nwm q392 rfl) dX1_kind_66 rfl rfl ?_
  refine z_icmp_ge (q := 72) (tgt := 100) dX1_kind_69 rfl rfl (fun hc => ?_) (fun hc => ?_)
  · have hf := hf.1 hc
    refine z_goto (q := 151) dX1_kind_100 rfl ?_
    refine z_iload_n (q := 152) (i := 3) (x := x3) dX1_kind_151 rfl rfl rfl ?_
    exact z_iret dX1_kind_152 rfl hf
  · have hf := hf.2 hc
    refine z_iload_n (q := 73) (i := 3) (x := x3) dX1_kind_72 rfl rfl rfl ?_
    refine z_aload_n (q := 74) (i := 0) (x := a0) dX1_kind_73 rfl rfl rfl ?_
    refine z_get 0 6 (q := 77) (v := .ref (a0 + 23)) rfl (z_lt rfl) (z_L0_T g_1) q512 dX1_kind_74 rfl (z_fvR (fun _ _ _ => rfl) (z_L0_P6 g_1)) ?_
    refine z_getN 9 2 (q := 80) (v := .ref (a0 + 26)) rfl (z_lt rfl) (z_L9_T (z_L0_N6 g_1)) (z_nwm q379 rfl) dX1_kind_77 rfl (z_fvR (fun _ _ _ => rfl) (z_L9_P2 (z_L0_N6 g_1))) ?_
    refine z_iload (q := 82) (i := 4) (x := x4) dX1_kind_80 rfl rfl ?_
    obtain ⟨g_2, hf⟩ := hf
    refine z_iald (q := 83) (n := 48) (z_L9_A2 (z_L0_N6 g_1)) g_2 dX1_kind_82 rfl ?_
    refine z_iload_n (q := 84) (i := 1) (x := x1) dX1_kind_83 rfl rfl rfl ?_
    have hk : z_V l G m_X1_kind (z_Fm G m_X1_kind Q) 0 0 h 92 [some (.ref a0), some (.int x1), none, some (.int x3), some (.int x4)] [.int (if (h.I (a0 + 26) (Int32.toNatClampNeg x4)) = x1 then 1 else 0), .int x3] := by
      refine z_iadd (q := 93) dX1_kind_92 rfl ?_
      refine z_nmI (fun v_3 hv_4 => ?_)
      have hf := hf v_3 hv_4
      refine z_istore_n (q := 94) (i := 3) (ls2 := [some (.ref a0), some (.int x1), none, some (.int v_3), some (.int x4)]) (x := v_3) dX1_kind_93 rfl (z_lt rfl) rfl rfl ?_
      refine z_iinc (q := 97) (i := 4) (x := x4) (v := (x4 + 1)) (ls2 := [some (.ref a0), some (.int x1), none, some (.int v_3), some (.int (x4 + 1))]) dX1_kind_94 rfl rfl (z_lt rfl) rfl rfl ?_
      refine z_goto (q := 60) dX1_kind_97 rfl ?_
      exact hf
    refine z_icmp_ne (q := 87) (tgt := 91) dX1_kind_84 rfl rfl (fun hc => ?_) (fun hc => ?_)
    · have hk := (z_ite hk).2 hc
      refine z_iconst (q := 92) (v := 0) dX1_kind_91 rfl rfl ?_
      exact hk
    · have hk := (z_ite hk).1 hc
      refine z_iconst (q := 88) (v := 1) dX1_kind_87 rfl rfl ?_
      refine z_goto (q := 92) dX1_kind_88 rfl ?_
      exact hk

theorem u_X1_kinds {l : Launch} {G : z_G} {a0 : Nat} {h : z_H} {Q : z_Q} (hst : l.stackTraces = false)  (hf : z_L0 h a0 ∧ ∃ b_2, (h.P a0 4) = some b_2 ∧ z_L8 h b_2 ∧ z_Ct l G m_J2_size [.ref (b_2 + 1)] h (z_Qi (fun x_5 h_6 => Q (some (.int x_5)) h_6))) : z_Ct l G m_X1_kinds [.ref a0] h Q := by
  refine z_Ct.of (ls := [some (.ref a0)]) hst rfl (by decide +kernel) (z_le rfl) rfl ?_
  show z_V l G m_X1_kinds (z_Fm G m_X1_kinds Q) 0 0 h 0 [some (.ref a0)] []
  refine z_aload_n (q := 1) (i := 0) (x := a0) dX1_kinds_0 rfl rfl rfl ?_
  obtain ⟨g_1, hf⟩ := hf
  obtain ⟨b_2, g_3, hf⟩ := hf
  refine z_get 0 4 (q := 4) (v := .ref b_2) rfl (z_lt rfl) (z_L0_T g_1) q510 dX1_kinds_1 rfl (z_fvR (fun _ _ _ => rfl) g_3) ?_
  obtain ⟨g_4, hf⟩ := hf
  refine z_getN 8 0 (q := 7) (v := .ref (b_2 + 1)) rfl (z_lt rfl) (z_L8_T g_4) (z_nwm q331 rfl) dX1_kinds_4 rfl (z_fvR (fun _ _ _ => rfl) (z_L8_P0 g_4)) ?_
  refine z_cVi m_J2_size [] ((b_2 + 1)) (q := 10) (rc2 := 0) (rs2 := 0) (st := []) dX1_kinds_7 rfl q1258 oV_J2_size rfl rfl ⟨z_le rfl, z_le rfl⟩ (z_le rfl) (z_rcv_of 21 rfl (z_L8_N0 g_4) rfl) rfl  rfl hf (fun x_5 h_6 hf => ?_)
  exact z_iret dX1_kinds_10 rfl hf

theorem u_X1_laws {l : Launch} {G : z_G} {a0 : Nat} {x1 : Int32} {x2 : Int32} {x3 : Int32} {h : z_H} {Q : z_Q} (hst : l.stackTraces = false)  (hf : z_L0 h a0 ∧ z_Ct l G m_X1_isKind [.ref a0, .int x1] h (z_Qi (fun x_2 h_3 => (x_2 = 0 → Q (some (.int (-1))) h_3) ∧ (¬ x_2 = 0 → z_Ct l G m_X1_in [.int x2, .int 0, .int 6] h_3 (z_Qi (fun x_4 h_5 => (x_4 = 0 → Q (some (.int (-1))) h_5) ∧ (¬ x_4 = 0 → z_Ct l G m_X1_in [.int x3, .int 0, .int 2] h_5 (z_Qi (fun x_6 h_7 => (x_6 = 0 → Q (some (.int (-1))) h_7) ∧ (¬ x_6 = 0 → z_L0 h_7 a0 ∧ z_Ct l G m_X1_firstRow [.ref a0] h_7 (z_Qi (fun x_9 h_10 => (x_9 = 0 → Q (some (.int (-1))) h_10) ∧ (¬ x_9 = 0 → z_L0 (h_10.nw (1, 8)) a0 ∧ ∃ b_12, ((h_10.nw (1, 8)).P a0 4) = some b_12 ∧ z_L8 (h_10.nw (1, 8)) b_12 ∧ z_Ct l G m_X1_copies [.ref (b_12 + 3), .ref (h_10.n)] (h_10.nw (1, 8)) (z_Qv (fun h_15 => ∃ n_16, h_15.T (h_10.n) = (1, n_16) ∧ vp_in x1 n_16 ∧ z_V l G m_X1_laws (z_Fm G m_X1_laws Q) 0 0 (h_15.sI (h_10.n) (Int32.toNatClampNeg x1) x2) 68 [some (.ref a0), none, none, some (.int x3), some (.ref (h_10.n)), some (.int 0), some (.int 0), some (.int 0), none] []))))))))))))))) : z_Ct l G m_X1_laws [.ref a0, .int x1, .int x2, .int x3] h Q := by
  refine z_Ct.of (ls := [some (.ref a0), some (.int x1), some (.int x2), some (.int x3), none, none, none, none, none]) hst rfl (by decide +kernel) (z_le rfl) rfl ?_
  show z_V l G m_X1_laws (z_Fm G m_X1_laws Q) 2 16 h 0 [some (.ref a0), some (.int x1), some (.int x2), some (.int x3), none, none, none, none, none] []
  refine z_aload_n (q := 1) (i := 0) (x := a0) dX1_laws_0 rfl rfl rfl ?_
  refine z_iload_n (q := 2) (i := 1) (x := x1) dX1_laws_1 rfl rfl rfl ?_
  obtain ⟨g_1, hf⟩ := hf
  refine z_cVi m_X1_isKind [.int x1] (a0) (q := 5) (rc2 := 2) (rs2 := 16) (st := []) dX1_laws_2 rfl q1250 oV_X1_isKind rfl rfl ⟨z_le rfl, z_le rfl⟩ (z_le rfl) (z_rcv_of 0 rfl (z_L0_T g_1) rfl) rfl  rfl hf (fun x_2 h_3 hf => ?_)
  refine z_if_eq (q := 8) (tgt := 34) dX1_laws_5 rfl rfl (fun hc => ?_) (fun hc => ?_)
  · have hf := hf.1 hc
    refine z_iconst (q := 35) (v := (-1)) dX1_laws_34 rfl rfl ?_
    exact z_iret dX1_laws_35 rfl hf
  · have hf := hf.2 hc
    refine z_iload_n (q := 9) (i := 2) (x := x2) dX1_laws_8 rfl rfl rfl ?_
    refine z_iconst (q := 10) (v := 0) dX1_laws_9 rfl rfl ?_
    refine z_bipush (q := 12) (v := 6) dX1_laws_10 (by decide) rfl ?_
    refine z_cSi m_X1_in [.int x2, .int 0, .int 6] (q := 15) (rc2 := 2) (rs2 := 16) (st := []) dX1_laws_12 rfl q1259 oS_X1_in rfl rfl ⟨z_le rfl, z_le rfl⟩ (z_le rfl) rfl  rfl hf (fun x_4 h_5 hf => ?_)
    refine z_if_eq (q := 18) (tgt := 34) dX1_laws_15 rfl rfl (fun hc => ?_) (fun hc => ?_)
    · have hf := hf.1 hc
      refine z_iconst (q := 35) (v := (-1)) dX1_laws_34 rfl rfl ?_
      exact z_iret dX1_laws_35 rfl hf
    · have hf := hf.2 hc
      refine z_iload_n (q := 19) (i := 3) (x := x3) dX1_laws_18 rfl rfl rfl ?_
      refine z_iconst (q := 20) (v := 0) dX1_laws_19 rfl rfl ?_
      refine z_iconst (q := 21) (v := 2) dX1_laws_20 rfl rfl ?_
      refine z_cSi m_X1_in [.int x3, .int 0, .int 2] (q := 24) (rc2 := 2) (rs2 := 16) (st := []) dX1_laws_21 rfl q1259 oS_X1_in rfl rfl ⟨z_le rfl, z_le rfl⟩ (z_le rfl) rfl  rfl hf (fun x_6 h_7 hf => ?_)
      refine z_if_eq (q := 27) (tgt := 34) dX1_laws_24 rfl rfl (fun hc => ?_) (fun hc => ?_)
      · have hf := hf.1 hc
        refine z_iconst (q := 35) (v := (-1)) dX1_laws_34 rfl rfl ?_
        exact z_iret dX1_laws_35 rfl hf
      · have hf := hf.2 hc
        refine z_aload_n (q := 28) (i := 0) (x := a0) dX1_laws_27 rfl rfl rfl ?_
        obtain ⟨g_8, hf⟩ := hf
        refine z_cVi m_X1_firstRow [] (a0) (q := 31) (rc2 := 1) (rs2 := 8) (st := []) dX1_laws_28 rfl q1449 oV_X1_firstRow rfl rfl ⟨z_le rfl, z_le rfl⟩ (z_le rfl) (z_rcv_of 0 rfl (z_L0_T g_8) rfl) rfl  rfl hf (fun x_9 h_10 hf => ?_)
        refine z_if_ne (q := 34) (tgt := 36) dX1_laws_31 rfl rfl (fun hc => ?_) (fun hc => ?_)
        · have hf := hf.2 hc
          refine z_bipush (q := 38) (v := 8) dX1_laws_36 (by decide) rfl ?_
          refine z_newa 1 (q := 40) (N := 8) (rc2 := 0) (rs2 := 0) (z_lt rfl) (z_lt rfl) rfl q295 (by decide) rfl (z_le rfl) dX1_laws_38 rfl rfl rfl ?_
          refine z_astore (q := 42) (i := 4) (ls2 := [some (.ref a0), some (.int x1), some (.int x2), some (.int x3), some (.ref (h_10.n)), none, none, none, none]) (x := (h_10.n)) dX1_laws_40 (z_lt rfl) rfl rfl ?_
          refine z_aload_n (q := 43) (i := 0) (x := a0) dX1_laws_42 rfl rfl rfl ?_
          obtain ⟨g_11, hf⟩ := hf
          obtain ⟨b_12, g_13, hf⟩ := hf
          refine z_get 0 4 (q := 46) (v := .ref b_12) rfl (z_lt rfl) (z_L0_T g_11) q510 dX1_laws_43 rfl (z_fvR (fun _ _ _ => rfl) g_13) ?_
          obtain ⟨g_14, hf⟩ := hf
          refine z_getN 8 1 (q := 49) (v := .ref (b_12 + 3)) rfl (z_lt rfl) (z_L8_T g_14) (z_nwm q334 rfl) dX1_laws_46 rfl (z_fvR (fun _ _ _ => rfl) (z_L8_P1 g_14)) ?_
          refine z_aload (q := 51) (i := 4) (x := (h_10.n)) dX1_laws_49 rfl rfl ?_
          refine z_cSv m_X1_copies [.ref (b_12 + 3), .ref (h_10.n)] (q := 54) (rc2 := 0) (rs2 := 0) (st := []) dX1_laws_51 rfl q1507 oS_X1_copies rfl rfl ⟨z_le rfl, z_le rfl⟩ (z_le rfl) rfl  rfl hf (fun h_15 hf => ?_)
          refine z_aload (q := 56) (i := 4) (x := (h_10.n)) dX1_laws_54 rfl rfl ?_
          refine z_iload_n (q := 57) (i := 1) (x := x1) dX1_laws_56 rfl rfl rfl ?_
          refine z_iload_n (q := 58) (i := 2) (x := x2) dX1_laws_57 rfl rfl rfl ?_
          obtain ⟨n_16, g_17, hf⟩ := hf
          obtain ⟨g_18, hf⟩ := hf
          refine z_iast (q := 59) (n := n_16) g_17 g_18 dX1_laws_58 rfl ?_
          refine z_iconst (q := 60) (v := 0) dX1_laws_59 rfl rfl ?_
          refine z_istore (q := 62) (i := 5) (ls2 := [some (.ref a0), some (.int x1), some (.int x2), some (.int x3), some (.ref (h_10.n)), some (.int 0), none, none, none]) (x := 0) dX1_laws_60 (z_lt rfl) rfl rfl ?_
          refine z_iconst (q := 63) (v := 0) dX1_laws_62 rfl rfl ?_
          refine z_istore (q := 65) (i := 6) (ls2 := [some (.ref a0), some (.int x1), some (.int x2), some (.int x3), some (.ref (h_10.n)), some (.int 0), some (.int 0), none, none]) (x := 0) dX1_laws_63 (z_lt rfl) rfl rfl ?_
          refine z_iconst (q := 66) (v := 0) dX1_laws_65 rfl rfl ?_
          refine z_istore (q := 68) (i := 7) (ls2 := [some (.ref a0), some (.int x1), some (.int x2), some (.int x3), some (.ref (h_10.n)), some (.int 0), some (.int 0), some (.int 0), none]) (x := 0) dX1_laws_66 (z_lt rfl) rfl rfl ?_
          refine z_prune [true, false, false, true, true, true, true, true, false] (ls2 := [some (.ref a0), none, none, some (.int x3), some (.ref (h_10.n)), some (.int 0), some (.int 0), some (.int 0), none]) rfl ?_
          exact hf
        · have hf := hf.1 hc
          refine z_iconst (q := 35) (v := (-1)) dX1_laws_34 rfl rfl ?_
          exact z_iret dX1_laws_35 rfl hf

theorem b_X1_laws_68 {l : Launch} {G : z_G} {rc rs : Nat} {a0 : Nat} {x3 : Int32} {a4 : Nat} {x5 : Int32} {x6 : Int32} {x7 : Int32} {h : z_H} {Q : z_Q}  (hf : z_L0 h a0 ∧ ∃ b_2, (h.P a0 4) = some b_2 ∧ z_L8 h b_2 ∧ z_Ct l G m_X10_first [.ref b_2] h (z_Qi (fun x_5 h_6 => z_L0 h_6 a0 ∧ z_Ct l G m_X1_plays [.ref a0, .int x_5, .ref a4] h_6 (z_Qv (fun h_8 => z_L0 h_8 a0 ∧ ((h_8.I (a0 + 9) 7) = 2 → ((h_8.I (a0 + 9) 7) < 2 → ∀ v_12 : Int32, v_12 = (x5 + (h_8.I (a0 + 9) 8)) → z_V l G m_X1_laws (z_Fm G m_X1_laws Q) rc rs h_8 124 [some (.ref a0), none, none, some (.int x3), some (.ref a4), some (.int v_12), some (.int (x6 + 1)), some (.int (x7 + 1)), none] []) ∧ (¬ (h_8.I (a0 + 9) 7) < 2 → z_V l G m_X1_laws (z_Fm G m_X1_laws Q) rc rs h_8 124 [some (.ref a0), none, none, some (.int x3), some (.ref a4), some (.int x5), some (.int x6), some (.int (x7 + 1)), none] [])) ∧ (¬ (h_8.I (a0 + 9) 7) = 2 → ((h_8.I (a0 + 9) 7) < 2 → ∀ v_10 : Int32, v_10 = (x5 + (h_8.I (a0 + 9) 8)) → z_V l G m_X1_laws (z_Fm G m_X1_laws Q) rc rs h_8 124 [some (.ref a0), none, none, some (.int x3), some (.ref a4), some (.int v_10), some (.int (x6 + 1)), some (.int x7), none] []) ∧ (¬ (h_8.I (a0 + 9) 7) < 2 → z_V l G m_X1_laws (z_Fm G m_X1_laws Q) rc rs h_8 124 [some (.ref a0), none, none, some (.int x3), some (.ref a4), some (.int x5), some (.int x6), some (.int x7), none] []))))))) : z_V l G m_X1_laws (z_Fm G m_X1_laws Q) rc rs h 68 [some (.ref a0), none, none, some (.int x3), some (.ref a4), some (.int x5), some (.int x6), some (.int x7), none] [] := by
  refine z_aload_n (q := 69) (i := 0) (x := a0) dX1_laws_68 rfl rfl rfl ?_
  refine z_aload_n (q := 70) (i := 0) (x := a0) dX1_laws_69 rfl rfl rfl ?_
  obtain ⟨g_1, hf⟩ := hf
  obtain ⟨b_2, g_3, hf⟩ := hf
  refine z_get 0 4 (q := 73) (v := .ref b_2) rfl (z_lt rfl) (z_L0_T g_1) q510 dX1_laws_70 rfl (z_fvR (fun _ _ _ => rfl) g_3) ?_
  obtain ⟨g_4, hf⟩ := hf
  refine z_cVi m_X10_first [] (b_2) (q := 76) (rc2 := rc) (rs2 := rs) (st := [.ref a0]) dX1_laws_73 rfl q1180 oV_X10_first rfl rfl ⟨z_le rfl, z_le rfl⟩ (z_le rfl) (z_rcv_of 8 rfl (z_L8_T g_4) rfl) rfl  rfl hf (fun x_5 h_6 hf => ?_)
  refine z_aload (q := 78) (i := 4) (x := a4) dX1_laws_76 rfl rfl ?_
  obtain ⟨g_7, hf⟩ := hf
  refine z_cVv m_X1_plays [.int x_5, .ref a4] (a0) (q := 81) (rc2 := rc) (rs2 := rs) (st := []) dX1_laws_78 rfl q1457 oV_X1_plays rfl rfl ⟨z_le rfl, z_le rfl⟩ (z_le rfl) (z_rcv_of 0 rfl (z_L0_T g_7) rfl) rfl  rfl hf (fun h_8 hf => ?_)
  refine z_aload_n (q := 82) (i := 0) (x := a0) dX1_laws_81 rfl rfl rfl ?_
  obtain ⟨g_9, hf⟩ := hf
  refine z_get 0 3 (q := 85) (v := .ref (a0 + 9)) rfl (z_lt rfl) (z_L0_T g_9) q508 dX1_laws_82 rfl (z_fvR (fun _ _ _ => rfl) (z_L0_P3 g_9)) ?_
  refine z_getN 7 7 (q := 88) (v := .int (h_8.I (a0 + 9) 7)) rfl (z_lt rfl) (z_L7_T (z_L0_N3 g_9)) (z_nwm q261 rfl) dX1_laws_85 rfl rfl ?_
  refine z_iconst (q := 89) (v := 2) dX1_laws_88 rfl rfl ?_
  refine z_icmp_ne (q := 92) (tgt := 95) dX1_laws_89 rfl rfl (fun hc => ?_) (fun hc => ?_)
  · have hf := hf.2 hc
    refine z_aload_n (q := 96) (i := 0) (x := a0) dX1_laws_95 rfl rfl rfl ?_
    refine z_get 0 3 (q := 99) (v := .ref (a0 + 9)) rfl (z_lt rfl) (z_L0_T g_9) q508 dX1_laws_96 rfl (z_fvR (fun _ _ _ => rfl) (z_L0_P3 g_9)) ?_
    refine z_getN 7 7 (q := 102) (v := .int (h_8.I (a0 + 9) 7)) rfl (z_lt rfl) (z_L7_T (z_L0_N3 g_9)) (z_nwm q261 rfl) dX1_laws_99 rfl rfl ?_
    refine z_iconst (q := 103) (v := 2) dX1_laws_102 rfl rfl ?_
    refine z_icmp_lt (q := 106) (tgt := 109) dX1_laws_103 rfl rfl (fun hc => ?_) (fun hc => ?_)
    · have hf := hf.1 hc
      refine z_iload (q := 111) (i := 5) (x := x5) dX1_laws_109 rfl rfl ?_
      refine z_aload_n (q := 112) (i := 0) (x := a0) dX1_laws_111 rfl rfl rfl ?_
      refine z_get 0 3 (q := 115) (v := .ref (a0 + 9)) rfl (z_lt rfl) (z_L0_T g_9) q508 dX1_laws_112 rfl (z_fvR (fun _ _ _ => rfl) (z_L0_P3 g_9)) ?_
      refine z_getN 7 8 (q := 118) (v := .int (h_8.I (a0 + 9) 8)) rfl (z_lt rfl) (z_L7_T (z_L0_N3 g_9)) (z_nwm q263 rfl) dX1_laws_115 rfl rfl ?_
      refine z_iadd (q := 119) dX1_laws_118 rfl ?_
      refine z_nmI (fun v_10 hv_11 => ?_)
      have hf := hf v_10 hv_11
      refine z_istore (q := 121) (i := 5) (ls2 := [some (.ref a0), none, none, some (.int x3), some (.ref a4), some (.int v_10), some (.int x6), some (.int x7), none]) (x := v_10) dX1_laws_119 (z_lt rfl) rfl rfl ?_
      refine z_iinc (q := 124) (i := 6) (x := x6) (v := (x6 + 1)) (ls2 := [some (.ref a0), none, none, some (.int x3), some (.ref a4), some (.int v_10), some (.int (x6 + 1)), some (.int x7), none]) dX1_laws_121 rfl rfl (z_lt rfl) rfl rfl ?_
      exact hf
    · have hf := hf.2 hc
      refine z_goto (q := 124) dX1_laws_106 rfl ?_
      exact hf
  · have hf := hf.1 hc
    refine z_iinc (q := 95) (i := 7) (x := x7) (v := (x7 + 1)) (ls2 := [some (.ref a0), none, none, some (.int x3), some (.ref a4), some (.int x5), some (.int x6), some (.int (x7 + 1)), none]) dX1_laws_92 rfl rfl (z_lt rfl) rfl rfl ?_
    refine z_aload_n (q := 96) (i := 0) (x := a0) dX1_laws_95 rfl rfl rfl ?_
    refine z_get 0 3 (q := 99) (v := .ref (a0 + 9)) rfl (z_lt rfl) (z_L0_T g_9) q508 dX1_laws_96 rfl (z_fvR (fun _ _ _ => rfl) (z_L0_P3 g_9)) ?_
    refine z_getN 7 7 (q := 102) (v := .int (h_8.I (a0 + 9) 7)) rfl (z_lt rfl) (z_L7_T (z_L0_N3 g_9)) (z_nwm q261 rfl) dX1_laws_99 rfl rfl ?_
    refine z_iconst (q := 103) (v := 2) dX1_laws_102 rfl rfl ?_
    refine z_icmp_lt (q := 106) (tgt := 109) dX1_laws_103 rfl rfl (fun hc => ?_) (fun hc => ?_)
    · have hf := hf.1 hc
      refine z_iload (q := 111) (i := 5) (x := x5) dX1_laws_109 rfl rfl ?_
      refine z_aload_n (q := 112) (i := 0) (x := a0) dX1_laws_111 rfl rfl rfl ?_
      refine z_get 0 3 (q := 115) (v := .ref (a0 + 9)) rfl (z_lt rfl) (z_L0_T g_9) q508 dX1_laws_112 rfl (z_fvR (fun _ _ _ => rfl) (z_L0_P3 g_9)) ?_
      refine z_getN 7 8 (q := 118) (v := .int (h_8.I (a0 + 9) 8)) rfl (z_lt rfl) (z_L7_T (z_L0_N3 g_9)) (z_nwm q263 rfl) dX1_laws_115 rfl rfl ?_
      refine z_iadd (q := 119) dX1_laws_118 rfl ?_
      refine z_nmI (fun v_12 hv_13 => ?_)
      have hf := hf v_12 hv_13
      refine z_istore (q := 121) (i := 5) (ls2 := [some (.ref a0), none, none, some (.int x3), some (.ref a4), some (.int v_12), some (.int x6), some (.int (x7 + 1)), none]) (x := v_12) dX1_laws_119 (z_lt rfl) rfl rfl ?_
      refine z_iinc (q := 124) (i := 6) (x := x6) (v := (x6 + 1)) (ls2 := [some (.ref a0), none, none, some (.int x3), some (.ref a4), some (.int v_12), some (.int (x6 + 1)), some (.int (x7 + 1)), none]) dX1_laws_121 rfl rfl (z_lt rfl) rfl rfl ?_
      exact hf
    · have hf := hf.2 hc
      refine z_goto (q := 124) dX1_laws_106 rfl ?_
      exact hf

theorem b_X1_laws_124 {l : Launch} {G : z_G} {rc rs : Nat} {a0 : Nat} {x3 : Int32} {a4 : Nat} {x5 : Int32} {x6 : Int32} {x7 : Int32} {h : z_H} {Q : z_Q}  (hf : z_L0 h a0 ∧ z_Ct l G m_X1_nextRow [.ref a0] h (z_Qi (fun x_2 h_3 => (x_2 = 0 → (x3 = 2 → Q (some (.int x7)) h_3) ∧ (¬ x3 = 2 → (x6 = 0 → (x6 = 0 → Q (some (.int x3)) h_3) ∧ (¬ x6 = 0 → (x3 = 0 → Q (some (.int (x5 / 1))) h_3) ∧ (¬ x3 = 0 → Q (some (.int (x6 / 1))) h_3))) ∧ (¬ x6 = 0 → z_Ct l G (m_X1_gcd 64) [.long (Int32.toInt64 x6), .long (Int32.toInt64 x5)] h_3 (z_Ql (fun y_4 h_5 => ∀ v_6 : Int32, v_6 = (Int64.toInt32 y_4) → (x6 = 0 → Q (some (.int x3)) h_5) ∧ (¬ x6 = 0 → (x3 = 0 → ¬ v_6 = 0 ∧ Q (some (.int (x5 / v_6))) h_5) ∧ (¬ x3 = 0 → ¬ v_6 = 0 ∧ Q (some (.int (x6 / v_6))) h_5))))))) ∧ (¬ x_2 = 0 → z_V l G m_X1_laws (z_Fm G m_X1_laws Q) rc rs h_3 68 [some (.ref a0), none, none, some (.int x3), some (.ref a4), some (.int x5), some (.int x6), some (.int x7), none] [])))) : z_V l G m_X1_laws (z_Fm G m_X1_laws Q) rc rs h 124 [some (.ref a0), none, none, some (.int x3), some (.ref a4), some (.int x5), some (.int x6), some (.int x7), none] [] := by
  refine z_aload_n (q := 125) (i := 0) (x := a0) dX1_laws_124 rfl rfl rfl ?_
  obtain ⟨g_1, hf⟩ := hf
  refine z_cVi m_X1_nextRow [] (a0) (q := 128) (rc2 := rc) (rs2 := rs) (st := []) dX1_laws_125 rfl q1465 oV_X1_nextRow rfl rfl ⟨z_le rfl, z_le rfl⟩ (z_le rfl) (z_rcv_of 0 rfl (z_L0_T g_1) rfl) rfl  rfl hf (fun x_2 h_3 hf => ?_)
  refine z_if_ne (q := 131) (tgt := 68) dX1_laws_128 rfl rfl (fun hc => ?_) (fun hc => ?_)
  · have hf := hf.2 hc
    exact hf
  · have hf := hf.1 hc
    refine z_iload_n (q := 132) (i := 3) (x := x3) dX1_laws_131 rfl rfl rfl ?_
    refine z_iconst (q := 133) (v := 2) dX1_laws_132 rfl rfl ?_
    refine z_icmp_ne (q := 136) (tgt := 139) dX1_laws_133 rfl rfl (fun hc => ?_) (fun hc => ?_)
    · have hf := hf.2 hc
      refine z_iload (q := 141) (i := 6) (x := x6) dX1_laws_139 rfl rfl ?_
      refine z_if_ne (q := 144) (tgt := 148) dX1_laws_141 rfl rfl (fun hc => ?_) (fun hc => ?_)
      · have hf := hf.2 hc
        refine z_iload (q := 150) (i := 6) (x := x6) dX1_laws_148 rfl rfl ?_
        refine z_i2l (q := 151) dX1_laws_150 rfl ?_
        refine z_iload (q := 153) (i := 5) (x := x5) dX1_laws_151 rfl rfl ?_
        refine z_i2l (q := 154) dX1_laws_153 rfl ?_
        refine z_cSl (m_X1_gcd 64) [.long (Int32.toInt64 x6), .long (Int32.toInt64 x5)] (q := 157) (rc2 := rc) (rs2 := rs) (st := []) dX1_laws_154 rfl q1508 oS_X1_gcd rfl rfl (z_room_of (by first | exact z_le rfl | (simp only [z_M.d, z_M.nL, z_M.lo, m_X1_gcd, m_X1_laws]; omega)) (by first | exact z_le rfl | (simp only [z_M.d, z_M.nL, z_M.lo, m_X1_gcd, m_X1_laws]; omega))) (z_le rfl) rfl  rfl hf (fun y_4 h_5 hf => ?_)
        refine z_l2i (q := 158) dX1_laws_157 rfl ?_
        refine z_nmI (fun v_6 hv_7 => ?_)
        have hf := hf v_6 hv_7
        refine z_istore (q := 160) (i := 8) (ls2 := [some (.ref a0), none, none, some (.int x3), some (.ref a4), some (.int x5), some (.int x6), some (.int x7), some (.int v_6)]) (x := v_6) dX1_laws_158 (z_lt rfl) rfl rfl ?_
        refine z_iload (q := 162) (i := 6) (x := x6) dX1_laws_160 rfl rfl ?_
        refine z_if_ne (q := 165) (tgt := 169) dX1_laws_162 rfl rfl (fun hc => ?_) (fun hc => ?_)
        · have hf := hf.2 hc
          refine z_iload_n (q := 170) (i := 3) (x := x3) dX1_laws_169 rfl rfl rfl ?_
          refine z_if_ne (q := 173) (tgt := 181) dX1_laws_170 rfl rfl (fun hc => ?_) (fun hc => ?_)
          · have hf := hf.2 hc
            refine z_iload (q := 183) (i := 6) (x := x6) dX1_laws_181 rfl rfl ?_
            refine z_iload (q := 185) (i := 8) (x := v_6) dX1_laws_183 rfl rfl ?_
            obtain ⟨g_8, hf⟩ := hf
            refine z_idiv (q := 186) dX1_laws_185 g_8 rfl ?_
            exact z_iret dX1_laws_186 rfl hf
          · have hf := hf.1 hc
            refine z_iload (q := 175) (i := 5) (x := x5) dX1_laws_173 rfl rfl ?_
            refine z_iload (q := 177) (i := 8) (x := v_6) dX1_laws_175 rfl rfl ?_
            obtain ⟨g_9, hf⟩ := hf
            refine z_idiv (q := 178) dX1_laws_177 g_9 rfl ?_
            refine z_goto (q := 186) dX1_laws_178 rfl ?_
            exact z_iret dX1_laws_186 rfl hf
        · have hf := hf.1 hc
          refine z_iload_n (q := 166) (i := 3) (x := x3) dX1_laws_165 rfl rfl rfl ?_
          refine z_goto (q := 186) dX1_laws_166 rfl ?_
          exact z_iret dX1_laws_186 rfl hf
      · have hf := hf.1 hc
        refine z_iconst (q := 145) (v := 1) dX1_laws_144 rfl rfl ?_
        refine z_goto (q := 158) dX1_laws_145 rfl ?_
        refine z_istore (q := 160) (i := 8) (ls2 := [some (.ref a0), none, none, some (.int x3), some (.ref a4), some (.int x5), some (.int x6), some (.int x7), some (.int 1)]) (x := 1) dX1_laws_158 (z_lt rfl) rfl rfl ?_
        refine z_iload (q := 162) (i := 6) (x := x6) dX1_laws_160 rfl rfl ?_
        refine z_if_ne (q := 165) (tgt := 169) dX1_laws_162 rfl rfl (fun hc => ?_) (fun hc => ?_)
        · have hf := hf.2 hc
          refine z_iload_n (q := 170) (i := 3) (x := x3) dX1_laws_169 rfl rfl rfl ?_
          refine z_if_ne (q := 173) (tgt := 181) dX1_laws_170 rfl rfl (fun hc => ?_) (fun hc => ?_)
          · have hf := hf.2 hc
            refine z_iload (q := 183) (i := 6) (x := x6) dX1_laws_181 rfl rfl ?_
            refine z_iload (q := 185) (i := 8) (x := 1) dX1_laws_183 rfl rfl ?_
            refine z_idiv (q := 186) dX1_laws_185 (by decide) rfl ?_
            exact z_iret dX1_laws_186 rfl hf
          · have hf := hf.1 hc
            refine z_iload (q := 175) (i := 5) (x := x5) dX1_laws_173 rfl rfl ?_
            refine z_iload (q := 177) (i := 8) (x := 1) dX1_laws_175 rfl rfl ?_
            refine z_idiv (q := 178) dX1_laws_177 (by decide) rfl ?_
            refine z_goto (q := 186) dX1_laws_178 rfl ?_
            exact z_iret dX1_laws_186 rfl hf
        · have hf := hf.1 hc
          refine z_iload_n (q := 166) (i := 3) (x := x3) dX1_laws_165 rfl rfl rfl ?_
          refine z_goto (q := 186) dX1_laws_166 rfl ?_
          exact z_iret dX1_laws_186 rfl hf
    · have hf := hf.1 hc
      refine z_iload (q := 138) (i := 7) (x := x7) dX1_laws_136 rfl rfl ?_
      exact z_iret dX1_laws_138 rfl hf

theorem u_X1_leads {l : Launch} {G : z_G} {a0 : Nat} {x1 : Int32} {x2 : Int32} {h : z_H} {Q : z_Q} (hst : l.stackTraces = false)  (hf : z_Ct l G m_X1_in [.int x1, .int 1, .int 20] h (z_Qi (fun x_1 h_2 => (x_1 = 0 → Q (some (.int (-1))) h_2) ∧ (¬ x_1 = 0 → z_Ct l G m_X1_in [.int x2, .int 0, .int 3] h_2 (z_Qi (fun x_3 h_4 => (x_3 = 0 → Q (some (.int (-1))) h_4) ∧ (¬ x_3 = 0 → z_L0 h_4 a0 ∧ z_Ct l G m_X1_firstRow [.ref a0] h_4 (z_Qi (fun x_6 h_7 => (x_6 = 0 → Q (some (.int (-1))) h_7) ∧ (¬ x_6 = 0 → z_V l G m_X1_leads (z_Fm G m_X1_leads Q) 0 0 (h_7.nw (1, 4)) 32 [some (.ref a0), some (.int x1), some (.int x2), some (.ref (h_7.n)), none, none] [])))))))))) : z_Ct l G m_X1_leads [.ref a0, .int x1, .int x2] h Q := by
  refine z_Ct.of (ls := [some (.ref a0), some (.int x1), some (.int x2), none, none, none]) hst rfl (by decide +kernel) (z_le rfl) rfl ?_
  show z_V l G m_X1_leads (z_Fm G m_X1_leads Q) 2 12 h 0 [some (.ref a0), some (.int x1), some (.int x2), none, none, none] []
  refine z_iload_n (q := 1) (i := 1) (x := x1) dX1_leads_0 rfl rfl rfl ?_
  refine z_iconst (q := 2) (v := 1) dX1_leads_1 rfl rfl ?_
  refine z_bipush (q := 4) (v := 20) dX1_leads_2 (by decide) rfl ?_
  refine z_cSi m_X1_in [.int x1, .int 1, .int 20] (q := 7) (rc2 := 2) (rs2 := 12) (st := []) dX1_leads_4 rfl q1259 oS_X1_in rfl rfl ⟨z_le rfl, z_le rfl⟩ (z_le rfl) rfl  rfl hf (fun x_1 h_2 hf => ?_)
  refine z_if_eq (q := 10) (tgt := 26) dX1_leads_7 rfl rfl (fun hc => ?_) (fun hc => ?_)
  · have hf := hf.1 hc
    refine z_iconst (q := 27) (v := (-1)) dX1_leads_26 rfl rfl ?_
    exact z_iret dX1_leads_27 rfl hf
  · have hf := hf.2 hc
    refine z_iload_n (q := 11) (i := 2) (x := x2) dX1_leads_10 rfl rfl rfl ?_
    refine z_iconst (q := 12) (v := 0) dX1_leads_11 rfl rfl ?_
    refine z_iconst (q := 13) (v := 3) dX1_leads_12 rfl rfl ?_
    refine z_cSi m_X1_in [.int x2, .int 0, .int 3] (q := 16) (rc2 := 2) (rs2 := 12) (st := []) dX1_leads_13 rfl q1259 oS_X1_in rfl rfl ⟨z_le rfl, z_le rfl⟩ (z_le rfl) rfl  rfl hf (fun x_3 h_4 hf => ?_)
    refine z_if_eq (q := 19) (tgt := 26) dX1_leads_16 rfl rfl (fun hc => ?_) (fun hc => ?_)
    · have hf := hf.1 hc
      refine z_iconst (q := 27) (v := (-1)) dX1_leads_26 rfl rfl ?_
      exact z_iret dX1_leads_27 rfl hf
    · have hf := hf.2 hc
      refine z_aload_n (q := 20) (i := 0) (x := a0) dX1_leads_19 rfl rfl rfl ?_
      obtain ⟨g_5, hf⟩ := hf
      refine z_cVi m_X1_firstRow [] (a0) (q := 23) (rc2 := 1) (rs2 := 4) (st := []) dX1_leads_20 rfl q1449 oV_X1_firstRow rfl rfl ⟨z_le rfl, z_le rfl⟩ (z_le rfl) (z_rcv_of 0 rfl (z_L0_T g_5) rfl) rfl  rfl hf (fun x_6 h_7 hf => ?_)
      refine z_if_ne (q := 26) (tgt := 28) dX1_leads_23 rfl rfl (fun hc => ?_) (fun hc => ?_)
      · have hf := hf.2 hc
        refine z_iconst (q := 29) (v := 4) dX1_leads_28 rfl rfl ?_
        refine z_newa 1 (q := 31) (N := 4) (rc2 := 0) (rs2 := 0) (z_lt rfl) (z_lt rfl) rfl q295 (by decide) rfl (z_le rfl) dX1_leads_29 rfl rfl rfl ?_
        refine z_astore_n (q := 32) (i := 3) (ls2 := [some (.ref a0), some (.int x1), some (.int x2), some (.ref (h_7.n)), none, none]) (x := (h_7.n)) dX1_leads_31 rfl (z_lt rfl) rfl rfl ?_
        exact hf
      · have hf := hf.1 hc
        refine z_iconst (q := 27) (v := (-1)) dX1_leads_26 rfl rfl ?_
        exact z_iret dX1_leads_27 rfl hf

theorem b_X1_leads_32 {l : Launch} {G : z_G} {rc rs : Nat} {a0 : Nat} {x1 : Int32} {x2 : Int32} {a3 : Nat} {h : z_H} {Q : z_Q}  (hf : z_L0 h a0 ∧ ∃ b_2, (h.P a0 4) = some b_2 ∧ z_L8 h b_2 ∧ z_Ct l G m_X10_first [.ref b_2] h (z_Qi (fun x_5 h_6 => z_L0 h_6 a0 ∧ z_Ct l G m_X1_deals_2 [.ref a0, .int x_5] h_6 (z_Qv (fun h_8 => z_L0 h_8 a0 ∧ z_Ct l G m_X1_goesTo [.ref a0, .int x1] h_8 (z_Qi (fun x_10 h_11 => (x_10 = 0 → z_L0 h_11 a0 ∧ z_Ct l G m_X1_nextRow [.ref a0] h_11 (z_Qi (fun x_49 h_50 => (x_49 = 0 → ∃ n_51, h_50.T a3 = (1, n_51) ∧ vp_in x2 n_51 ∧ Q (some (.int (h_50.I a3 (Int32.toNatClampNeg x2)))) h_50) ∧ (¬ x_49 = 0 → z_V l G m_X1_leads (z_Fm G m_X1_leads Q) rc rs h_50 32 [some (.ref a0), some (.int x1), some (.int x2), some (.ref a3), none, none] [])))) ∧ (¬ x_10 = 0 → z_L0 h_11 a0 ∧ ∀ v_14 : Int32, v_14 = ((h_11.I (a0 + 36) 6) - (h_11.I (a0 + 36) 7)) → ∃ b_16, (h_11.P a0 4) = some b_16 ∧ z_L8 h_11 b_16 ∧ z_Ct l G m_X11_worth [.ref (a0 + 36), .int 0, .ref (b_16 + 3)] h_11 (z_Qi (fun x_19 h_20 => z_L0 h_20 a0 ∧ ∃ b_22, (h_20.P a0 4) = some b_22 ∧ z_L8 h_20 b_22 ∧ z_Ct l G m_X11_worth [.ref (a0 + 36), .int 1, .ref (b_22 + 3)] h_20 (z_Qi (fun x_25 h_26 => z_L0 h_26 a0 ∧ ∃ b_28, (h_26.P a0 4) = some b_28 ∧ z_L8 h_26 b_28 ∧ z_Ct l G m_X10_first [.ref b_28] h_26 (z_Qi (fun x_31 h_32 => z_L0 h_32 a0 ∧ ∃ b_34, (h_32.P a0 4) = some b_34 ∧ z_L8 h_32 b_34 ∧ z_Ct l G m_X1_plays [.ref a0, .int x_31, .ref (b_34 + 3)] h_32 (z_Qv (fun h_37 => z_L0 h_37 a0 ∧ z_Ct l G m_X1_leads_2 [.ref a0, .ref a3, .int 0, .int v_14] h_37 (z_Qv (fun h_39 => z_L0 h_39 a0 ∧ z_Ct l G m_X1_leads_2 [.ref a0, .ref a3, .int 2, .int (x_19 - x_25)] h_39 (z_Qv (fun h_41 => z_L0 h_41 a0 ∧ z_Ct l G m_X1_nextRow [.ref a0] h_41 (z_Qi (fun x_43 h_44 => (x_43 = 0 → ∃ n_45, h_44.T a3 = (1, n_45) ∧ vp_in x2 n_45 ∧ Q (some (.int (h_44.I a3 (Int32.toNatClampNeg x2)))) h_44) ∧ (¬ x_43 = 0 → z_V l G m_X1_leads (z_Fm G m_X1_leads Q) rc rs h_44 32 [some (.ref a0), some (.int x1), some (.int x2), some (.ref a3), none, none] []))))))))))))))))))))))) : z_V l G m_X1_leads (z_Fm G m_X1_leads Q) rc rs h 32 [some (.ref a0), some (.int x1), some (.int x2), some (.ref a3), none, none] [] := by
  refine z_aload_n (q := 33) (i := 0) (x := a0) dX1_leads_32 rfl rfl rfl ?_
  refine z_aload_n (q := 34) (i := 0) (x := a0) dX1_leads_33 rfl rfl rfl ?_
  obtain ⟨g_1, hf⟩ := hf
  obtain ⟨b_2, g_3, hf⟩ := hf
  refine z_get 0 4 (q := 37) (v := .ref b_2) rfl (z_lt rfl) (z_L0_T g_1) q510 dX1_leads_34 rfl (z_fvR (fun _ _ _ => rfl) g_3) ?_
  obtain ⟨g_4, hf⟩ := hf
  refine z_cVi m_X10_first [] (b_2) (q := 40) (rc2 := rc) (rs2 := rs) (st := [.ref a0]) dX1_leads_37 rfl q1180 oV_X10_first rfl rfl ⟨z_le rfl, z_le rfl⟩ (z_le rfl) (z_rcv_of 8 rfl (z_L8_T g_4) rfl) rfl  rfl hf (fun x_5 h_6 hf => ?_)
  obtain ⟨g_7, hf⟩ := hf
  refine z_cVv m_X1_deals_2 [.int x_5] (a0) (q := 43) (rc2 := rc) (rs2 := rs) (st := []) dX1_leads_40 rfl q1461 oV_X1_deals_2 rfl rfl ⟨z_le rfl, z_le rfl⟩ (z_le rfl) (z_rcv_of 0 rfl (z_L0_T g_7) rfl) rfl  rfl hf (fun h_8 hf => ?_)
  refine z_aload_n (q := 44) (i := 0) (x := a0) dX1_leads_43 rfl rfl rfl ?_
  refine z_iload_n (q := 45) (i := 1) (x := x1) dX1_leads_44 rfl rfl rfl ?_
  obtain ⟨g_9, hf⟩ := hf
  refine z_cVi m_X1_goesTo [.int x1] (a0) (q := 48) (rc2 := rc) (rs2 := rs) (st := []) dX1_leads_45 rfl q1489 oV_X1_goesTo rfl rfl ⟨z_le rfl, z_le rfl⟩ (z_le rfl) (z_rcv_of 0 rfl (z_L0_T g_9) rfl) rfl  rfl hf (fun x_10 h_11 hf => ?_)
  refine z_if_ne (q := 51) (tgt := 54) dX1_leads_48 rfl rfl (fun hc => ?_) (fun hc => ?_)
  · have hf := hf.2 hc
    refine z_aload_n (q := 55) (i := 0) (x := a0) dX1_leads_54 rfl rfl rfl ?_
    obtain ⟨g_13, hf⟩ := hf
    refine z_get 0 7 (q := 58) (v := .ref (a0 + 36)) rfl (z_lt rfl) (z_L0_T g_13) q513 dX1_leads_55 rfl (z_fvR (fun _ _ _ => rfl) (z_L0_P7 g_13)) ?_
    refine z_getN 9 6 (q := 61) (v := .int (h_11.I (a0 + 36) 6)) rfl (z_lt rfl) (z_L9_T (z_L0_N7 g_13)) (z_nwm q387 rfl) dX1_leads_58 rfl rfl ?_
    refine z_aload_n (q := 62) (i := 0) (x := a0) dX1_leads_61 rfl rfl rfl ?_
    refine z_get 0 7 (q := 65) (v := .ref (a0 + 36)) rfl (z_lt rfl) (z_L0_T g_13) q513 dX1_leads_62 rfl (z_fvR (fun _ _ _ => rfl) (z_L0_P7 g_13)) ?_
    refine z_getN 9 7 (q := 68) (v := .int (h_11.I (a0 + 36) 7)) rfl (z_lt rfl) (z_L9_T (z_L0_N7 g_13)) (z_nwm q390 rfl) dX1_leads_65 rfl rfl ?_
    refine z_isub (q := 69) dX1_leads_68 rfl ?_
    refine z_nmI (fun v_14 hv_15 => ?_)
    have hf := hf v_14 hv_15
    refine z_istore (q := 71) (i := 4) (ls2 := [some (.ref a0), some (.int x1), some (.int x2), some (.ref a3), some (.int v_14), none]) (x := v_14) dX1_leads_69 (z_lt rfl) rfl rfl ?_
    refine z_aload_n (q := 72) (i := 0) (x := a0) dX1_leads_71 rfl rfl rfl ?_
    refine z_get 0 7 (q := 75) (v := .ref (a0 + 36)) rfl (z_lt rfl) (z_L0_T g_13) q513 dX1_leads_72 rfl (z_fvR (fun _ _ _ => rfl) (z_L0_P7 g_13)) ?_
    refine z_iconst (q := 76) (v := 0) dX1_leads_75 rfl rfl ?_
    refine z_aload_n (q := 77) (i := 0) (x := a0) dX1_leads_76 rfl rfl rfl ?_
    obtain ⟨b_16, g_17, hf⟩ := hf
    refine z_get 0 4 (q := 80) (v := .ref b_16) rfl (z_lt rfl) (z_L0_T g_13) q510 dX1_leads_77 rfl (z_fvR (fun _ _ _ => rfl) g_17) ?_
    obtain ⟨g_18, hf⟩ := hf
    refine z_getN 8 1 (q := 83) (v := .ref (b_16 + 3)) rfl (z_lt rfl) (z_L8_T g_18) (z_nwm q334 rfl) dX1_leads_80 rfl (z_fvR (fun _ _ _ => rfl) (z_L8_P1 g_18)) ?_
    refine z_cVi m_X11_worth [.int 0, .ref (b_16 + 3)] ((a0 + 36)) (q := 86) (rc2 := rc) (rs2 := rs) (st := []) dX1_leads_83 rfl q1494 oV_X11_worth rfl rfl ⟨z_le rfl, z_le rfl⟩ (z_le rfl) (z_rcv_of 9 rfl (z_L9_T (z_L0_N7 g_13)) rfl) rfl  rfl hf (fun x_19 h_20 hf => ?_)
    refine z_aload_n (q := 87) (i := 0) (x := a0) dX1_leads_86 rfl rfl rfl ?_
    obtain ⟨g_21, hf⟩ := hf
    refine z_get 0 7 (q := 90) (v := .ref (a0 + 36)) rfl (z_lt rfl) (z_L0_T g_21) q513 dX1_leads_87 rfl (z_fvR (fun _ _ _ => rfl) (z_L0_P7 g_21)) ?_
    refine z_iconst (q := 91) (v := 1) dX1_leads_90 rfl rfl ?_
    refine z_aload_n (q := 92) (i := 0) (x := a0) dX1_leads_91 rfl rfl rfl ?_
    obtain ⟨b_22, g_23, hf⟩ := hf
    refine z_get 0 4 (q := 95) (v := .ref b_22) rfl (z_lt rfl) (z_L0_T g_21) q510 dX1_leads_92 rfl (z_fvR (fun _ _ _ => rfl) g_23) ?_
    obtain ⟨g_24, hf⟩ := hf
    refine z_getN 8 1 (q := 98) (v := .ref (b_22 + 3)) rfl (z_lt rfl) (z_L8_T g_24) (z_nwm q334 rfl) dX1_leads_95 rfl (z_fvR (fun _ _ _ => rfl) (z_L8_P1 g_24)) ?_
    refine z_cVi m_X11_worth [.int 1, .ref (b_22 + 3)] ((a0 + 36)) (q := 101) (rc2 := rc) (rs2 := rs) (st := [.int x_19]) dX1_leads_98 rfl q1494 oV_X11_worth rfl rfl ⟨z_le rfl, z_le rfl⟩ (z_le rfl) (z_rcv_of 9 rfl (z_L9_T (z_L0_N7 g_21)) rfl) rfl  rfl hf (fun x_25 h_26 hf => ?_)
    refine z_isub (q := 102) dX1_leads_101 rfl ?_
    refine z_istore (q := 104) (i := 5) (ls2 := [some (.ref a0), some (.int x1), some (.int x2), some (.ref a3), some (.int v_14), some (.int (x_19 - x_25))]) (x := (x_19 - x_25)) dX1_leads_102 (z_lt rfl) rfl rfl ?_
    refine z_aload_n (q := 105) (i := 0) (x := a0) dX1_leads_104 rfl rfl rfl ?_
    refine z_aload_n (q := 106) (i := 0) (x := a0) dX1_leads_105 rfl rfl rfl ?_
    obtain ⟨g_27, hf⟩ := hf
    obtain ⟨b_28, g_29, hf⟩ := hf
    refine z_get 0 4 (q := 109) (v := .ref b_28) rfl (z_lt rfl) (z_L0_T g_27) q510 dX1_leads_106 rfl (z_fvR (fun _ _ _ => rfl) g_29) ?_
    obtain ⟨g_30, hf⟩ := hf
    refine z_cVi m_X10_first [] (b_28) (q := 112) (rc2 := rc) (rs2 := rs) (st := [.ref a0]) dX1_leads_109 rfl q1180 oV_X10_first rfl rfl ⟨z_le rfl, z_le rfl⟩ (z_le rfl) (z_rcv_of 8 rfl (z_L8_T g_30) rfl) rfl  rfl hf (fun x_31 h_32 hf => ?_)
    refine z_aload_n (q := 113) (i := 0) (x := a0) dX1_leads_112 rfl rfl rfl ?_
    obtain ⟨g_33, hf⟩ := hf
    obtain ⟨b_34, g_35, hf⟩ := hf
    refine z_get 0 4 (q := 116) (v := .ref b_34) rfl (z_lt rfl) (z_L0_T g_33) q510 dX1_leads_113 rfl (z_fvR (fun _ _ _ => rfl) g_35) ?_
    obtain ⟨g_36, hf⟩ := hf
    refine z_getN 8 1 (q := 119) (v := .ref (b_34 + 3)) rfl (z_lt rfl) (z_L8_T g_36) (z_nwm q334 rfl) dX1_leads_116 rfl (z_fvR (fun _ _ _ => rfl) (z_L8_P1 g_36)) ?_
    refine z_cVv m_X1_plays [.int x_31, .ref (b_34 + 3)] (a0) (q := 122) (rc2 := rc) (rs2 := rs) (st := []) dX1_leads_119 rfl q1457 oV_X1_plays rfl rfl ⟨z_le rfl, z_le rfl⟩ (z_le rfl) (z_rcv_of 0 rfl (z_L0_T g_33) rfl) rfl  rfl hf (fun h_37 hf => ?_)
    refine z_aload_n (q := 123) (i := 0) (x := a0) dX1_leads_122 rfl rfl rfl ?_
    refine z_aload_n (q := 124) (i := 3) (x := a3) dX1_leads_123 rfl rfl rfl ?_
    refine z_iconst (q := 125) (v := 0) dX1_leads_124 rfl rfl ?_
    refine z_iload (q := 127) (i := 4) (x := v_14) dX1_leads_125 rfl rfl ?_
    obtain ⟨g_38, hf⟩ := hf
    refine z_cVv m_X1_leads_2 [.ref a3, .int 0, .int v_14] (a0) (q := 130) (rc2 := rc) (rs2 := rs) (st := []) dX1_leads_127 rfl q1499 oV_X1_leads_2 rfl rfl ⟨z_le rfl, z_le rfl⟩ (z_le rfl) (z_rcv_of 0 rfl (z_L0_T g_38) rfl) rfl  rfl hf (fun h_39 hf => ?_)
    refine z_aload_n (q := 131) (i := 0) (x := a0) dX1_leads_130 rfl rfl rfl ?_
    refine z_aload_n (q := 132) (i := 3) (x := a3) dX1_leads_131 rfl rfl rfl ?_
    refine z_iconst (q := 133) (v := 2) dX1_leads_132 rfl rfl ?_
    refine z_iload (q := 135) (i := 5) (x := (x_19 - x_25)) dX1_leads_133 rfl rfl ?_
    obtain ⟨g_40, hf⟩ := hf
    refine z_cVv m_X1_leads_2 [.ref a3, .int 2, .int (x_19 - x_25)] (a0) (q := 138) (rc2 := rc) (rs2 := rs) (st := []) dX1_leads_135 rfl q1499 oV_X1_leads_2 rfl rfl ⟨z_le rfl, z_le rfl⟩ (z_le rfl) (z_rcv_of 0 rfl (z_L0_T g_40) rfl) rfl  rfl hf (fun h_41 hf => ?_)
    refine z_aload_n (q := 139) (i := 0) (x := a0) dX1_leads_138 rfl rfl rfl ?_
    obtain ⟨g_42, hf⟩ := hf
    refine z_cVi m_X1_nextRow [] (a0) (q := 142) (rc2 := rc) (rs2 := rs) (st := []) dX1_leads_139 rfl q1465 oV_X1_nextRow rfl rfl ⟨z_le rfl, z_le rfl⟩ (z_le rfl) (z_rcv_of 0 rfl (z_L0_T g_42) rfl) rfl  rfl hf (fun x_43 h_44 hf => ?_)
    refine z_if_ne (q := 145) (tgt := 32) dX1_leads_142 rfl rfl (fun hc => ?_) (fun hc => ?_)
    · have hf := hf.2 hc
      refine z_prune [true, true, true, true, false, false] (ls2 := [some (.ref a0), some (.int x1), some (.int x2), some (.ref a3), none, none]) rfl ?_
      exact hf
    · have hf := hf.1 hc
      refine z_aload_n (q := 146) (i := 3) (x := a3) dX1_leads_145 rfl rfl rfl ?_
      refine z_iload_n (q := 147) (i := 2) (x := x2) dX1_leads_146 rfl rfl rfl ?_
      obtain ⟨n_45, g_46, hf⟩ := hf
      obtain ⟨g_47, hf⟩ := hf
      refine z_iald (q := 148) (n := n_45) g_46 g_47 dX1_leads_147 rfl ?_
      exact z_iret dX1_leads_148 rfl hf
  · have hf := hf.1 hc
    refine z_goto (q := 138) dX1_leads_51 rfl ?_
    refine z_aload_n (q := 139) (i := 0) (x := a0) dX1_leads_138 rfl rfl rfl ?_
    obtain ⟨g_48, hf⟩ := hf
    refine z_cVi m_X1_nextRow [] (a0) (q := 142) (rc2 := rc) (rs2 := rs) (st := []) dX1_leads_139 rfl q1465 oV_X1_nextRow rfl rfl ⟨z_le rfl, z_le rfl⟩ (z_le rfl) (z_rcv_of 0 rfl (z_L0_T g_48) rfl) rfl  rfl hf (fun x_49 h_50 hf => ?_)
    refine z_if_ne (q := 145) (tgt := 32) dX1_leads_142 rfl rfl (fun hc => ?_) (fun hc => ?_)
    · have hf := hf.2 hc
      exact hf
    · have hf := hf.1 hc
      refine z_aload_n (q := 146) (i := 3) (x := a3) dX1_leads_145 rfl rfl rfl ?_
      refine z_iload_n (q := 147) (i := 2) (x := x2) dX1_leads_146 rfl rfl rfl ?_
      obtain ⟨n_51, g_52, hf⟩ := hf
      obtain ⟨g_53, hf⟩ := hf
      refine z_iald (q := 148) (n := n_51) g_52 g_53 dX1_leads_147 rfl ?_
      exact z_iret dX1_leads_148 rfl hf

theorem u_X1_leads_2 {l : Launch} {G : z_G} {a0 : Nat} {a1 : Nat} {x2 : Int32} {x3 : Int32} {h : z_H} {Q : z_Q} (hst : l.stackTraces = false)  (hf : (x3 = 0 → Q none h) ∧ (¬ x3 = 0 → ∃ n_1, h.T a1 = (1, n_1) ∧ vp_in (x2 + 1) n_1 ∧ vp_in (x2 + 1) n_1 ∧ z_L0 h a0 ∧ (((h.sI a1 (Int32.toNatClampNeg (x2 + 1)) ((h.I a1 (Int32.toNatClampNeg (x2 + 1))) + 1)).I (a0 + 9) 7) = (if x3 ≤ 0 then 1 else 0) → vp_in x2 n_1 ∧ vp_in x2 n_1 ∧ Q none ((h.sI a1 (Int32.toNatClampNeg (x2 + 1)) ((h.I a1 (Int32.toNatClampNeg (x2 + 1))) + 1)).sI a1 (Int32.toNatClampNeg x2) (((h.sI a1 (Int32.toNatClampNeg (x2 + 1)) ((h.I a1 (Int32.toNatClampNeg (x2 + 1))) + 1)).I a1 (Int32.toNatClampNeg x2)) + 1))) ∧ (¬ ((h.sI a1 (Int32.toNatClampNeg (x2 + 1)) ((h.I a1 (Int32.toNatClampNeg (x2 + 1))) + 1)).I (a0 + 9) 7) = (if x3 ≤ 0 then 1 else 0) → Q none (h.sI a1 (Int32.toNatClampNeg (x2 + 1)) ((h.I a1 (Int32.toNatClampNeg (x2 + 1))) + 1))))) : z_Ct l G m_X1_leads_2 [.ref a0, .ref a1, .int x2, .int x3] h Q := by
  refine z_Ct.of (ls := [some (.ref a0), some (.ref a1), some (.int x2), some (.int x3)]) hst rfl (by decide +kernel) (z_le rfl) rfl ?_
  show z_V l G m_X1_leads_2 (z_Fm G m_X1_leads_2 Q) 0 0 h 0 [some (.ref a0), some (.ref a1), some (.int x2), some (.int x3)] []
  refine z_iload_n (q := 1) (i := 3) (x := x3) dX1_leads_2_0 rfl rfl rfl ?_
  refine z_if_ne (q := 4) (tgt := 5) dX1_leads_2_1 rfl rfl (fun hc => ?_) (fun hc => ?_)
  · have hf := hf.2 hc
    refine z_aload_n (q := 6) (i := 1) (x := a1) dX1_leads_2_5 rfl rfl rfl ?_
    refine z_iload_n (q := 7) (i := 2) (x := x2) dX1_leads_2_6 rfl rfl rfl ?_
    refine z_iconst (q := 8) (v := 1) dX1_leads_2_7 rfl rfl ?_
    refine z_iadd (q := 9) dX1_leads_2_8 rfl ?_
    refine z_dup2 (q := 10) dX1_leads_2_9 rfl rfl rfl ?_
    obtain ⟨n_1, g_2, hf⟩ := hf
    obtain ⟨g_3, hf⟩ := hf
    refine z_iald (q := 11) (n := n_1) g_2 g_3 dX1_leads_2_10 rfl ?_
    refine z_iconst (q := 12) (v := 1) dX1_leads_2_11 rfl rfl ?_
    refine z_iadd (q := 13) dX1_leads_2_12 rfl ?_
    obtain ⟨g_4, hf⟩ := hf
    refine z_iast (q := 14) (n := n_1) g_2 g_4 dX1_leads_2_13 rfl ?_
    refine z_aload_n (q := 15) (i := 0) (x := a0) dX1_leads_2_14 rfl rfl rfl ?_
    obtain ⟨g_5, hf⟩ := hf
    refine z_get 0 3 (q := 18) (v := .ref (a0 + 9)) rfl (z_lt rfl) (z_L0_T g_5) q508 dX1_leads_2_15 rfl (z_fvR (fun _ _ _ => rfl) (z_L0_P3 g_5)) ?_
    refine z_getN 7 7 (q := 21) (v := .int ((h.sI a1 (Int32.toNatClampNeg (x2 + 1)) ((h.I a1 (Int32.toNatClampNeg (x2 + 1))) + 1)).I (a0 + 9) 7)) rfl (z_lt rfl) (z_L7_T (z_L0_N3 g_5)) (z_nwm q261 rfl) dX1_leads_2_18 rfl rfl ?_
    refine z_iload_n (q := 22) (i := 3) (x := x3) dX1_leads_2_21 rfl rfl rfl ?_
    have hk : z_V l G m_X1_leads_2 (z_Fm G m_X1_leads_2 Q) 0 0 (h.sI a1 (Int32.toNatClampNeg (x2 + 1)) ((h.I a1 (Int32.toNatClampNeg (x2 + 1))) + 1)) 30 [some (.ref a0), some (.ref a1), some (.int x2), some (.int x3)] [.int (if x3 ≤ 0 then 1 else 0), .int ((h.sI a1 (Int32.toNatClampNeg (x2 + 1)) ((h.I a1 (Int32.toNatClampNeg (x2 + 1))) + 1)).I (a0 + 9) 7)] := by
      refine z_icmp_ne (q := 33) (tgt := 40) dX1_leads_2_30 rfl rfl (fun hc => ?_) (fun hc => ?_)
      · have hf := hf.2 hc
        exact z_vret dX1_leads_2_40 rfl hf
      · have hf := hf.1 hc
        refine z_aload_n (q := 34) (i := 1) (x := a1) dX1_leads_2_33 rfl rfl rfl ?_
        refine z_iload_n (q := 35) (i := 2) (x := x2) dX1_leads_2_34 rfl rfl rfl ?_
        refine z_dup2 (q := 36) dX1_leads_2_35 rfl rfl rfl ?_
        obtain ⟨g_6, hf⟩ := hf
        refine z_iald (q := 37) (n := n_1) g_2 g_6 dX1_leads_2_36 rfl ?_
        refine z_iconst (q := 38) (v := 1) dX1_leads_2_37 rfl rfl ?_
        refine z_iadd (q := 39) dX1_leads_2_38 rfl ?_
        obtain ⟨g_7, hf⟩ := hf
        refine z_iast (q := 40) (n := n_1) g_2 g_7 dX1_leads_2_39 rfl ?_
        exact z_vret dX1_leads_2_40 rfl hf
    refine z_if_le (q := 25) (tgt := 29) dX1_leads_2_22 rfl rfl (fun hc => ?_) (fun hc => ?_)
    · have hk := (z_ite hk).1 hc
      refine z_iconst (q := 30) (v := 1) dX1_leads_2_29 rfl rfl ?_
      exact hk
    · have hk := (z_ite hk).2 hc
      refine z_iconst (q := 26) (v := 0) dX1_leads_2_25 rfl rfl ?_
      refine z_goto (q := 30) dX1_leads_2_26 rfl ?_
      exact hk
  · have hf := hf.1 hc
    exact z_vret dX1_leads_2_4 rfl hf

theorem u_X1_looked {l : Launch} {G : z_G} {a0 : Nat} {x1 : Int32} {x2 : Int32} {x3 : Int32} {h : z_H} {Q : z_Q} (hst : l.stackTraces = false)  (hf : z_Ct l G m_X1_in [.int x1, .int 0, .int 9999] h (z_Qi (fun x_1 h_2 => (x_1 = 0 → Q (some (.int (-1))) h_2) ∧ (¬ x_1 = 0 → z_Ct l G m_X1_in [.int x2, .int 1, .int 200] h_2 (z_Qi (fun x_3 h_4 => (x_3 = 0 → Q (some (.int (-1))) h_4) ∧ (¬ x_3 = 0 → z_L0 h_4 a0 ∧ ∃ b_6, (h_4.P a0 4) = some b_6 ∧ z_L8 h_4 b_6 ∧ z_Ct l G m_X10_cards [.ref b_6] h_4 (z_Qi (fun x_9 h_10 => z_Ct l G m_X1_in [.int x3, .int (-1), .int (x_9 - 1)] h_10 (z_Qi (fun x_11 h_12 => (x_11 = 0 → Q (some (.int (-1))) h_12) ∧ (¬ x_11 = 0 → z_L0 h_12 a0 ∧ ∃ b_14, (h_12.P a0 4) = some b_14 ∧ z_L8 h_12 b_14 ∧ z_Ct l G m_X10_cards [.ref b_14] h_12 (z_Qi (fun x_17 h_18 => (x_17 = 0 → Q (some (.int (-1))) h_18) ∧ (¬ x_17 = 0 → z_L0 h_18 a0 ∧ z_V l G m_X1_looked (z_Fm G m_X1_looked Q) 0 0 (h_18.sL a0 21 (Int32.toInt64 x1)) 60 [some (.ref a0), none, some (.int x2), some (.int x3), some (.int 0)] []))))))))))))))) : z_Ct l G m_X1_looked [.ref a0, .int x1, .int x2, .int x3] h Q := by
  refine z_Ct.of (ls := [some (.ref a0), some (.int x1), some (.int x2), some (.int x3), none]) hst rfl (by decide +kernel) (z_le rfl) rfl ?_
  show z_V l G m_X1_looked (z_Fm G m_X1_looked Q) 0 0 h 0 [some (.ref a0), some (.int x1), some (.int x2), some (.int x3), none] []
  refine z_iload_n (q := 1) (i := 1) (x := x1) dX1_looked_0 rfl rfl rfl ?_
  refine z_iconst (q := 2) (v := 0) dX1_looked_1 rfl rfl ?_
  refine z_sipush (q := 5) (v := 9999) dX1_looked_2 (by decide) rfl ?_
  refine z_cSi m_X1_in [.int x1, .int 0, .int 9999] (q := 8) (rc2 := 0) (rs2 := 0) (st := []) dX1_looked_5 rfl q1259 oS_X1_in rfl rfl ⟨z_le rfl, z_le rfl⟩ (z_le rfl) rfl  rfl hf (fun x_1 h_2 hf => ?_)
  refine z_if_eq (q := 11) (tgt := 49) dX1_looked_8 rfl rfl (fun hc => ?_) (fun hc => ?_)
  · have hf := hf.1 hc
    refine z_iconst (q := 50) (v := (-1)) dX1_looked_49 rfl rfl ?_
    exact z_iret dX1_looked_50 rfl hf
  · have hf := hf.2 hc
    refine z_iload_n (q := 12) (i := 2) (x := x2) dX1_looked_11 rfl rfl rfl ?_
    refine z_iconst (q := 13) (v := 1) dX1_looked_12 rfl rfl ?_
    refine z_sipush (q := 16) (v := 200) dX1_looked_13 (by decide) rfl ?_
    refine z_cSi m_X1_in [.int x2, .int 1, .int 200] (q := 19) (rc2 := 0) (rs2 := 0) (st := []) dX1_looked_16 rfl q1259 oS_X1_in rfl rfl ⟨z_le rfl, z_le rfl⟩ (z_le rfl) rfl  rfl hf (fun x_3 h_4 hf => ?_)
    refine z_if_eq (q := 22) (tgt := 49) dX1_looked_19 rfl rfl (fun hc => ?_) (fun hc => ?_)
    · have hf := hf.1 hc
      refine z_iconst (q := 50) (v := (-1)) dX1_looked_49 rfl rfl ?_
      exact z_iret dX1_looked_50 rfl hf
    · have hf := hf.2 hc
      refine z_iload_n (q := 23) (i := 3) (x := x3) dX1_looked_22 rfl rfl rfl ?_
      refine z_iconst (q := 24) (v := (-1)) dX1_looked_23 rfl rfl ?_
      refine z_aload_n (q := 25) (i := 0) (x := a0) dX1_looked_24 rfl rfl rfl ?_
      obtain ⟨g_5, hf⟩ := hf
      obtain ⟨b_6, g_7, hf⟩ := hf
      refine z_get 0 4 (q := 28) (v := .ref b_6) rfl (z_lt rfl) (z_L0_T g_5) q510 dX1_looked_25 rfl (z_fvR (fun _ _ _ => rfl) g_7) ?_
      obtain ⟨g_8, hf⟩ := hf
      refine z_cVi m_X10_cards [] (b_6) (q := 31) (rc2 := 0) (rs2 := 0) (st := [.int (-1), .int x3]) dX1_looked_28 rfl q1621 oV_X10_cards rfl rfl ⟨z_le rfl, z_le rfl⟩ (z_le rfl) (z_rcv_of 8 rfl (z_L8_T g_8) rfl) rfl  rfl hf (fun x_9 h_10 hf => ?_)
      refine z_iconst (q := 32) (v := 1) dX1_looked_31 rfl rfl ?_
      refine z_isub (q := 33) dX1_looked_32 rfl ?_
      refine z_cSi m_X1_in [.int x3, .int (-1), .int (x_9 - 1)] (q := 36) (rc2 := 0) (rs2 := 0) (st := []) dX1_looked_33 rfl q1259 oS_X1_in rfl rfl ⟨z_le rfl, z_le rfl⟩ (z_le rfl) rfl  rfl hf (fun x_11 h_12 hf => ?_)
      refine z_if_eq (q := 39) (tgt := 49) dX1_looked_36 rfl rfl (fun hc => ?_) (fun hc => ?_)
      · have hf := hf.1 hc
        refine z_iconst (q := 50) (v := (-1)) dX1_looked_49 rfl rfl ?_
        exact z_iret dX1_looked_50 rfl hf
      · have hf := hf.2 hc
        refine z_aload_n (q := 40) (i := 0) (x := a0) dX1_looked_39 rfl rfl rfl ?_
        obtain ⟨g_13, hf⟩ := hf
        obtain ⟨b_14, g_15, hf⟩ := hf
        refine z_get 0 4 (q := 43) (v := .ref b_14) rfl (z_lt rfl) (z_L0_T g_13) q510 dX1_looked_40 rfl (z_fvR (fun _ _ _ => rfl) g_15) ?_
        obtain ⟨g_16, hf⟩ := hf
        refine z_cVi m_X10_cards [] (b_14) (q := 46) (rc2 := 0) (rs2 := 0) (st := []) dX1_looked_43 rfl q1621 oV_X10_cards rfl rfl ⟨z_le rfl, z_le rfl⟩ (z_le rfl) (z_rcv_of 8 rfl (z_L8_T g_16) rfl) rfl  rfl hf (fun x_17 h_18 hf => ?_)
        refine z_if_ne (q := 49) (tgt := 51) dX1_looked_46 rfl rfl (fun hc => ?_) (fun hc => ?_)
        · have hf := hf.2 hc
          refine z_aload_n (q := 52) (i := 0) (x := a0) dX1_looked_51 rfl rfl rfl ?_
          refine z_iload_n (q := 53) (i := 1) (x := x1) dX1_looked_52 rfl rfl rfl ?_
          refine z_i2l (q := 54) dX1_looked_53 rfl ?_
          obtain ⟨g_19, hf⟩ := hf
          refine z_putL 0 21 (q := 57) (x := (Int32.toInt64 x1)) (v := .long (Int32.toInt64 x1)) rfl (z_lt rfl) (z_L0_T g_19) q527 rfl dX1_looked_54 rfl rfl rfl rfl (fun _ _ _ => rfl) ?_
          refine z_iconst (q := 58) (v := 0) dX1_looked_57 rfl rfl ?_
          refine z_istore (q := 60) (i := 4) (ls2 := [some (.ref a0), some (.int x1), some (.int x2), some (.int x3), some (.int 0)]) (x := 0) dX1_looked_58 (z_lt rfl) rfl rfl ?_
          refine z_prune [true, false, true, true, true] (ls2 := [some (.ref a0), none, some (.int x2), some (.int x3), some (.int 0)]) rfl ?_
          exact hf
        · have hf := hf.1 hc
          refine z_iconst (q := 50) (v := (-1)) dX1_looked_49 rfl rfl ?_
          exact z_iret dX1_looked_50 rfl hf

theorem b_X1_looked_60 {l : Launch} {G : z_G} {a0 : Nat} {x2 : Int32} {x3 : Int32} {x4 : Int32} {h : z_H} {Q : z_Q}  (hf : (x2 ≤ x4 → Q (some (.int (-1))) h) ∧ (¬ x2 ≤ x4 → z_L0 h a0 ∧ z_Ct l G m_X1_shuffles [.ref a0] h (z_Qv (fun h_2 => z_L0 h_2 a0 ∧ ∃ b_4, (h_2.P a0 4) = some b_4 ∧ z_L8 h_2 b_4 ∧ z_Ct l G m_X10_first [.ref b_4] h_2 (z_Qi (fun x_7 h_8 => z_L0 h_8 a0 ∧ ∃ b_10, (h_8.P a0 4) = some b_10 ∧ z_L8 h_8 b_10 ∧ z_Ct l G m_X1_plays [.ref a0, .int x_7, .ref (b_10 + 3)] h_8 (z_Qv (fun h_13 => z_L0 h_13 a0 ∧ ((h_13.I (a0 + 9) 7) = 2 → ((x3 = (-1) → True) ∧ (¬ x3 = (-1) → vp_in x3 24 ∧ True)) ∧ Q (some (.int (if x3 = (-1) then x4 else (h_13.I (a0 + 55) (Int32.toNatClampNeg x3))))) h_13) ∧ (¬ (h_13.I (a0 + 9) 7) = 2 → z_V l G m_X1_looked (z_Fm G m_X1_looked Q) 0 0 h_13 60 [some (.ref a0), none, some (.int x2), some (.int x3), some (.int (x4 + 1))] []))))))))) : z_V l G m_X1_looked (z_Fm G m_X1_looked Q) 0 0 h 60 [some (.ref a0), none, some (.int x2), some (.int x3), some (.int x4)] [] := by
  refine z_iload (q := 62) (i := 4) (x := x4) dX1_looked_60 rfl rfl ?_
  refine z_iload_n (q := 63) (i := 2) (x := x2) dX1_looked_62 rfl rfl rfl ?_
  refine z_icmp_ge (q := 66) (tgt := 122) dX1_looked_63 rfl rfl (fun hc => ?_) (fun hc => ?_)
  · have hf := hf.1 hc
    refine z_iconst (q := 123) (v := (-1)) dX1_looked_122 rfl rfl ?_
    exact z_iret dX1_looked_123 rfl hf
  · have hf := hf.2 hc
    refine z_aload_n (q := 67) (i := 0) (x := a0) dX1_looked_66 rfl rfl rfl ?_
    obtain ⟨g_1, hf⟩ := hf
    refine z_cVv m_X1_shuffles [] (a0) (q := 70) (rc2 := 0) (rs2 := 0) (st := []) dX1_looked_67 rfl q1622 oV_X1_shuffles rfl rfl ⟨z_le rfl, z_le rfl⟩ (z_le rfl) (z_rcv_of 0 rfl (z_L0_T g_1) rfl) rfl  rfl hf (fun h_2 hf => ?_)
    refine z_aload_n (q := 71) (i := 0) (x := a0) dX1_looked_70 rfl rfl rfl ?_
    refine z_aload_n (q := 72) (i := 0) (x := a0) dX1_looked_71 rfl rfl rfl ?_
    obtain ⟨g_3, hf⟩ := hf
    obtain ⟨b_4, g_5, hf⟩ := hf
    refine z_get 0 4 (q := 75) (v := .ref b_4) rfl (z_lt rfl) (z_L0_T g_3) q510 dX1_looked_72 rfl (z_fvR (fun _ _ _ => rfl) g_5) ?_
    obtain ⟨g_6, hf⟩ := hf
    refine z_cVi m_X10_first [] (b_4) (q := 78) (rc2 := 0) (rs2 := 0) (st := [.ref a0]) dX1_looked_75 rfl q1180 oV_X10_first rfl rfl ⟨z_le rfl, z_le rfl⟩ (z_le rfl) (z_rcv_of 8 rfl (z_L8_T g_6) rfl) rfl  rfl hf (fun x_7 h_8 hf => ?_)
    refine z_aload_n (q := 79) (i := 0) (x := a0) dX1_looked_78 rfl rfl rfl ?_
    obtain ⟨g_9, hf⟩ := hf
    obtain ⟨b_10, g_11, hf⟩ := hf
    refine z_get 0 4 (q := 82) (v := .ref b_10) rfl (z_lt rfl) (z_L0_T g_9) q510 dX1_looked_79 rfl (z_fvR (fun _ _ _ => rfl) g_11) ?_
    obtain ⟨g_12, hf⟩ := hf
    refine z_getN 8 1 (q := 85) (v := .ref (b_10 + 3)) rfl (z_lt rfl) (z_L8_T g_12) (z_nwm q334 rfl) dX1_looked_82 rfl (z_fvR (fun _ _ _ => rfl) (z_L8_P1 g_12)) ?_
    refine z_cVv m_X1_plays [.int x_7, .ref (b_10 + 3)] (a0) (q := 88) (rc2 := 0) (rs2 := 0) (st := []) dX1_looked_85 rfl q1457 oV_X1_plays rfl rfl ⟨z_le rfl, z_le rfl⟩ (z_le rfl) (z_rcv_of 0 rfl (z_L0_T g_9) rfl) rfl  rfl hf (fun h_13 hf => ?_)
    refine z_aload_n (q := 89) (i := 0) (x := a0) dX1_looked_88 rfl rfl rfl ?_
    obtain ⟨g_14, hf⟩ := hf
    refine z_get 0 3 (q := 92) (v := .ref (a0 + 9)) rfl (z_lt rfl) (z_L0_T g_14) q508 dX1_looked_89 rfl (z_fvR (fun _ _ _ => rfl) (z_L0_P3 g_14)) ?_
    refine z_getN 7 7 (q := 95) (v := .int (h_13.I (a0 + 9) 7)) rfl (z_lt rfl) (z_L7_T (z_L0_N3 g_14)) (z_nwm q261 rfl) dX1_looked_92 rfl rfl ?_
    refine z_iconst (q := 96) (v := 2) dX1_looked_95 rfl rfl ?_
    refine z_icmp_ne (q := 99) (tgt := 116) dX1_looked_96 rfl rfl (fun hc => ?_) (fun hc => ?_)
    · have hf := hf.2 hc
      refine z_iinc (q := 119) (i := 4) (x := x4) (v := (x4 + 1)) (ls2 := [some (.ref a0), none, some (.int x2), some (.int x3), some (.int (x4 + 1))]) dX1_looked_116 rfl rfl (z_lt rfl) rfl rfl ?_
      refine z_goto (q := 60) dX1_looked_119 rfl ?_
      exact hf
    · have hf := hf.1 hc
      refine z_iload_n (q := 100) (i := 3) (x := x3) dX1_looked_99 rfl rfl rfl ?_
      refine z_iconst (q := 101) (v := (-1)) dX1_looked_100 rfl rfl ?_
      obtain ⟨hsc, hf⟩ := hf
      have hk : z_V l G m_X1_looked (z_Fm G m_X1_looked Q) 0 0 h_13 115 [some (.ref a0), none, some (.int x2), some (.int x3), some (.int x4)] [.int (if x3 = (-1) then x4 else (h_13.I (a0 + 55) (Int32.toNatClampNeg x3)))] := by
        exact z_iret dX1_looked_115 rfl hf
      refine z_icmp_ne (q := 104) (tgt := 109) dX1_looked_101 rfl rfl (fun hc => ?_) (fun hc => ?_)
      · have hk := (z_ite hk).2 hc
        have hsc := hsc.2 hc
        obtain ⟨g_15, hsc⟩ := hsc
        refine z_aload_n (q := 110) (i := 0) (x := a0) dX1_looked_109 rfl rfl rfl ?_
        refine z_get 0 15 (q := 113) (v := .ref (a0 + 55)) rfl (z_lt rfl) (z_L0_T g_14) q521 dX1_looked_110 rfl (z_fvR (fun _ _ _ => rfl) (z_L0_P15 g_14)) ?_
        refine z_iload_n (q := 114) (i := 3) (x := x3) dX1_looked_113 rfl rfl rfl ?_
        refine z_iald (q := 115) (n := 24) (z_L0_A15 g_14) g_15 dX1_looked_114 rfl ?_
        exact hk
      · have hk := (z_ite hk).1 hc
        have hsc := hsc.1 hc
        refine z_iload (q := 106) (i := 4) (x := x4) dX1_looked_104 rfl rfl ?_
        refine z_goto (q := 115) dX1_looked_106 rfl ?_
        exact hk

theorem u_X1_mark {l : Launch} {G : z_G} {a0 : Nat} {x1 : Int32} {x2 : Int32} {h : z_H} {Q : z_Q} (hst : l.stackTraces = false)  (hf : z_Ct l G m_X1_in [.int x1, .int 0, .int 3] h (z_Qi (fun x_1 h_2 => (x_1 = 0 → Q (some (.int 0)) h_2) ∧ (¬ x_1 = 0 → (x2 = 0 → z_L0 h_2 a0 ∧ vp_in x1 4 ∧ ((h_2.P (a0 + 59) (Int32.toNatClampNeg x1)) = none → z_Ct l G m_X23_init [.ref (h_2.n)] (h_2.nw (30, 0)) (z_Qv (fun h_7 => ∃ n_8, h_7.T (a0 + 59) = (8, n_8) ∧ vp_in x1 n_8 ∧ z_L20 h_7 (h_2.n) ∧ z_V l G m_X1_mark (z_Fm G m_X1_mark Q) 96 6144 (h_7.sP (a0 + 59) (Int32.toNatClampNeg x1) (some (h_2.n))) 46 [some (.ref a0), some (.int x1), some (.int x2), none] []))) ∧ (∀ b_5, (h_2.P (a0 + 59) (Int32.toNatClampNeg x1)) = some b_5 → z_V l G m_X1_mark (z_Fm G m_X1_mark Q) 114 6586 h_2 46 [some (.ref a0), some (.int x1), some (.int x2), none] [])) ∧ (¬ x2 = 0 → z_L0 h_2 a0 ∧ vp_in x1 4 ∧ ((h_2.P (a0 + 59) (Int32.toNatClampNeg x1)) = none → Q (some (.int 0)) h_2) ∧ (∀ b_14, (h_2.P (a0 + 59) (Int32.toNatClampNeg x1)) = some b_14 → vp_in x1 4 ∧ z_V l G m_X1_mark (z_Fm G m_X1_mark Q) 114 6586 h_2 46 [some (.ref a0), some (.int x1), some (.int x2), none] [])))))) : z_Ct l G m_X1_mark [.ref a0, .int x1, .int x2] h Q := by
  refine z_Ct.of (ls := [some (.ref a0), some (.int x1), some (.int x2), none]) hst rfl (by decide +kernel) (z_le rfl) rfl ?_
  show z_V l G m_X1_mark (z_Fm G m_X1_mark Q) 114 6586 h 0 [some (.ref a0), some (.int x1), some (.int x2), none] []
  refine z_iload_n (q := 1) (i := 1) (x := x1) dX1_mark_0 rfl rfl rfl ?_
  refine z_iconst (q := 2) (v := 0) dX1_mark_1 rfl rfl ?_
  refine z_iconst (q := 3) (v := 3) dX1_mark_2 rfl rfl ?_
  refine z_cSi m_X1_in [.int x1, .int 0, .int 3] (q := 6) (rc2 := 114) (rs2 := 6586) (st := []) dX1_mark_3 rfl q1259 oS_X1_in rfl rfl ⟨z_le rfl, z_le rfl⟩ (z_le rfl) rfl  rfl hf (fun x_1 h_2 hf => ?_)
  refine z_if_eq (q := 9) (tgt := 22) dX1_mark_6 rfl rfl (fun hc => ?_) (fun hc => ?_)
  · have hf := hf.1 hc
    refine z_iconst (q := 23) (v := 0) dX1_mark_22 rfl rfl ?_
    exact z_zret dX1_mark_23 rfl (z_nb01 z_b0) hf
  · have hf := hf.2 hc
    refine z_iload_n (q := 10) (i := 2) (x := x2) dX1_mark_9 rfl rfl rfl ?_
    refine z_if_eq (q := 13) (tgt := 24) dX1_mark_10 rfl rfl (fun hc => ?_) (fun hc => ?_)
    · have hf := hf.1 hc
      refine z_aload_n (q := 25) (i := 0) (x := a0) dX1_mark_24 rfl rfl rfl ?_
      obtain ⟨g_3, hf⟩ := hf
      refine z_get 0 22 (q := 28) (v := .ref (a0 + 59)) rfl (z_lt rfl) (z_L0_T g_3) q528 dX1_mark_25 rfl (z_fvR (fun _ _ _ => rfl) (z_L0_P22 g_3)) ?_
      refine z_iload_n (q := 29) (i := 1) (x := x1) dX1_mark_28 rfl rfl rfl ?_
      obtain ⟨g_4, hf⟩ := hf
      refine z_aald (q := 30) (n := 4) (v := va_rf (h_2.P (a0 + 59) (Int32.toNatClampNeg x1))) (z_L0_A22 g_3) (by decide) g_4 dX1_mark_29 rfl rfl ?_
      rcases z_nn (h_2.P (a0 + 59) (Int32.toNatClampNeg x1)) with hn | ⟨b_5, g_6⟩
      · have hf := hf.1 hn
        refine z_topq hn ?_
        refine z_ifnonnullN (q := 33) dX1_mark_30 rfl ?_
        refine z_aload_n (q := 34) (i := 0) (x := a0) dX1_mark_33 rfl rfl rfl ?_
        refine z_get 0 22 (q := 37) (v := .ref (a0 + 59)) rfl (z_lt rfl) (z_L0_T g_3) q528 dX1_mark_34 rfl (z_fvR (fun _ _ _ => rfl) (z_L0_P22 g_3)) ?_
        refine z_iload_n (q := 38) (i := 1) (x := x1) dX1_mark_37 rfl rfl rfl ?_
        refine z_new 20 (q := 41) (rc2 := 113) (rs2 := 6582) rfl q494 q1646 q163 dX1_mark_38 rfl rfl rfl ?_
        refine z_dup (q := 42) dX1_mark_41 rfl rfl ?_
        refine z_cINv m_X23_init [] ((h_2.n)) (q := 45) (rc2 := 96) (rs2 := 6144) (st := [.ref (h_2.n), .int x1, .ref (a0 + 59)]) dX1_mark_42 rfl (z_nwm q1647 rfl) oI_X23_init rfl rfl ⟨z_le rfl, z_le rfl⟩ (z_le rfl) rfl  rfl hf (fun h_7 hf => ?_)
        obtain ⟨n_8, g_9, hf⟩ := hf
        obtain ⟨g_10, hf⟩ := hf
        obtain ⟨g_11, hf⟩ := hf
        refine z_aast (q := 46) (n := n_8) g_9 (by decide) (z_L20_T g_11) ⟨_, rfl, _, rfl, Or.inl rfl⟩ g_10 dX1_mark_45 rfl ?_
        exact hf
      · have hf := hf.2 b_5 g_6
        refine z_topq g_6 ?_
        refine z_ifnonnull (q := 46) dX1_mark_30 rfl ?_
        exact hf
    · have hf := hf.2 hc
      refine z_aload_n (q := 14) (i := 0) (x := a0) dX1_mark_13 rfl rfl rfl ?_
      obtain ⟨g_12, hf⟩ := hf
      refine z_get 0 22 (q := 17) (v := .ref (a0 + 59)) rfl (z_lt rfl) (z_L0_T g_12) q528 dX1_mark_14 rfl (z_fvR (fun _ _ _ => rfl) (z_L0_P22 g_12)) ?_
      refine z_iload_n (q := 18) (i := 1) (x := x1) dX1_mark_17 rfl rfl rfl ?_
      obtain ⟨g_13, hf⟩ := hf
      refine z_aald (q := 19) (n := 4) (v := va_rf (h_2.P (a0 + 59) (Int32.toNatClampNeg x1))) (z_L0_A22 g_12) (by decide) g_13 dX1_mark_18 rfl rfl ?_
      rcases z_nn (h_2.P (a0 + 59) (Int32.toNatClampNeg x1)) with hn | ⟨b_14, g_15⟩
      · have hf := hf.1 hn
        refine z_topq hn ?_
        refine z_ifnonnullN (q := 22) dX1_mark_19 rfl ?_
        refine z_iconst (q := 23) (v := 0) dX1_mark_22 rfl rfl ?_
        exact z_zret dX1_mark_23 rfl (z_nb01 z_b0) hf
      · have hf := hf.2 b_14 g_15
        refine z_topq g_15 ?_
        refine z_ifnonnull (q := 24) dX1_mark_19 rfl ?_
        refine z_aload_n (q := 25) (i := 0) (x := a0) dX1_mark_24 rfl rfl rfl ?_
        refine z_get 0 22 (q := 28) (v := .ref (a0 + 59)) rfl (z_lt rfl) (z_L0_T g_12) q528 dX1_mark_25 rfl (z_fvR (fun _ _ _ => rfl) (z_L0_P22 g_12)) ?_
        refine z_iload_n (q := 29) (i := 1) (x := x1) dX1_mark_28 rfl rfl rfl ?_
        obtain ⟨g_16, hf⟩ := hf
        refine z_aald (q := 30) (n := 4) (v := .ref b_14) (z_L0_A22 g_12) (by decide) g_16 dX1_mark_29 rfl (z_rfR g_15) ?_
        refine z_ifnonnull (q := 46) dX1_mark_30 rfl ?_
        exact hf

theorem b_X1_mark_46 {l : Launch} {G : z_G} {rc rs : Nat} {a0 : Nat} {x1 : Int32} {x2 : Int32} {h : z_H} {Q : z_Q}  (hf : z_L0 h a0 ∧ vp_in x1 4 ∧ ∃ b_3, (h.P (a0 + 59) (Int32.toNatClampNeg x1)) = some b_3 ∧ (x2 = 0 → z_L20 h b_3 ∧ ∃ rc_7, rc = rc_7 + 48 ∧ ∃ rs_9, rs = rs_9 + 3072 ∧ z_Ct l G m_X11_beWhole [.ref (b_3 + 1), .ref (a0 + 23)] h (z_Qv (fun h_11 => z_L0 h_11 a0 ∧ z_L20 h_11 b_3 ∧ z_Ct l G m_X1_deals [.ref (a0 + 49), .ref (b_3 + 14)] h_11 (z_Qv (fun h_14 => z_L0 h_14 a0 ∧ z_L20 h_14 b_3 ∧ z_Ct l G m_X1_deals [.ref (a0 + 51), .ref (b_3 + 16)] h_14 (z_Qv (fun h_17 => z_L0 h_17 a0 ∧ z_L20 h_17 b_3 ∧ ((h_17.I a0 12) = 0 ∨ (h_17.I a0 12) = 1) ∧ Q (some (.int 1)) (h_17.sI b_3 3 (h_17.I a0 12))))))))) ∧ (¬ x2 = 0 → z_L20 h b_3 ∧ ∃ rc_22, rc = rc_22 + 48 ∧ ∃ rs_24, rs = rs_24 + 3072 ∧ z_Ct l G m_X11_beWhole [.ref (a0 + 23), .ref (b_3 + 1)] h (z_Qv (fun h_26 => z_L20 h_26 b_3 ∧ z_L0 h_26 a0 ∧ z_Ct l G m_X1_deals [.ref (b_3 + 14), .ref (a0 + 49)] h_26 (z_Qv (fun h_29 => z_L20 h_29 b_3 ∧ z_L0 h_29 a0 ∧ z_Ct l G m_X1_deals [.ref (b_3 + 16), .ref (a0 + 51)] h_29 (z_Qv (fun h_32 => z_L20 h_32 b_3 ∧ z_L0 h_32 a0 ∧ ((h_32.I b_3 3) = 0 ∨ (h_32.I b_3 3) = 1) ∧ Q (some (.int 1)) ((h_32.sI a0 12 (h_32.I b_3 3)).sI a0 14 0))))))))) : z_V l G m_X1_mark (z_Fm G m_X1_mark Q) rc rs h 46 [some (.ref a0), some (.int x1), some (.int x2), none] [] := by
  refine z_aload_n (q := 47) (i := 0) (x := a0) dX1_mark_46 rfl rfl rfl ?_
  obtain ⟨g_1, hf⟩ := hf
  refine z_get 0 22 (q := 50) (v := .ref (a0 + 59)) rfl (z_lt rfl) (z_L0_T g_1) q528 dX1_mark_47 rfl (z_fvR (fun _ _ _ => rfl) (z_L0_P22 g_1)) ?_
  refine z_iload_n (q := 51) (i := 1) (x := x1) dX1_mark_50 rfl rfl rfl ?_
  obtain ⟨g_2, hf⟩ := hf
  obtain ⟨b_3, g_4, hf⟩ := hf
  refine z_aald (q := 52) (n := 4) (v := .ref b_3) (z_L0_A22 g_1) (by decide) g_2 dX1_mark_51 rfl (z_rfR g_4) ?_
  refine z_astore_n (q := 53) (i := 3) (ls2 := [some (.ref a0), some (.int x1), some (.int x2), some (.ref b_3)]) (x := b_3) dX1_mark_52 rfl (z_lt rfl) rfl rfl ?_
  refine z_iload_n (q := 54) (i := 2) (x := x2) dX1_mark_53 rfl rfl rfl ?_
  refine z_if_eq (q := 57) (tgt := 106) dX1_mark_54 rfl rfl (fun hc => ?_) (fun hc => ?_)
  · have hf := hf.1 hc
    refine z_aload_n (q := 107) (i := 3) (x := b_3) dX1_mark_106 rfl rfl rfl ?_
    obtain ⟨g_6, hf⟩ := hf
    refine z_getN 20 0 (q := 110) (v := .ref (b_3 + 1)) rfl (z_lt rfl) (z_L20_T g_6) (z_nwm q1656 rfl) dX1_mark_107 rfl (z_fvR (fun _ _ _ => rfl) (z_L20_P0 g_6)) ?_
    refine z_aload_n (q := 111) (i := 0) (x := a0) dX1_mark_110 rfl rfl rfl ?_
    refine z_get 0 6 (q := 114) (v := .ref (a0 + 23)) rfl (z_lt rfl) (z_L0_T g_1) q512 dX1_mark_111 rfl (z_fvR (fun _ _ _ => rfl) (z_L0_P6 g_1)) ?_
    obtain ⟨rc_7, g_8, hf⟩ := hf
    obtain ⟨rs_9, g_10, hf⟩ := hf
    refine z_cVv m_X11_beWhole [.ref (a0 + 23)] ((b_3 + 1)) (q := 117) (rc2 := rc_7) (rs2 := rs_9) (st := []) dX1_mark_114 rfl q1295 oV_X11_beWhole rfl rfl ⟨z_le rfl, z_le rfl⟩ (z_le rfl) (z_rcv_of 9 rfl (z_L9_T (z_L20_N0 g_6)) rfl) g_8  g_10 hf (fun h_11 hf => ?_)
    refine z_aload_n (q := 118) (i := 0) (x := a0) dX1_mark_117 rfl rfl rfl ?_
    obtain ⟨g_12, hf⟩ := hf
    refine z_get 0 8 (q := 121) (v := .ref (a0 + 49)) rfl (z_lt rfl) (z_L0_T g_12) q514 dX1_mark_118 rfl (z_fvR (fun _ _ _ => rfl) (z_L0_P8 g_12)) ?_
    refine z_aload_n (q := 122) (i := 3) (x := b_3) dX1_mark_121 rfl rfl rfl ?_
    obtain ⟨g_13, hf⟩ := hf
    refine z_getN 20 1 (q := 125) (v := .ref (b_3 + 14)) rfl (z_lt rfl) (z_L20_T g_13) (z_nwm q1658 rfl) dX1_mark_122 rfl (z_fvR (fun _ _ _ => rfl) (z_L20_P1 g_13)) ?_
    refine z_cSv m_X1_deals [.ref (a0 + 49), .ref (b_3 + 14)] (q := 128) (rc2 := rc_7) (rs2 := rs_9) (st := []) dX1_mark_125 rfl q1204 oS_X1_deals rfl rfl ⟨z_le rfl, z_le rfl⟩ (z_le rfl) rfl  rfl hf (fun h_14 hf => ?_)
    refine z_aload_n (q := 129) (i := 0) (x := a0) dX1_mark_128 rfl rfl rfl ?_
    obtain ⟨g_15, hf⟩ := hf
    refine z_get 0 9 (q := 132) (v := .ref (a0 + 51)) rfl (z_lt rfl) (z_L0_T g_15) q515 dX1_mark_129 rfl (z_fvR (fun _ _ _ => rfl) (z_L0_P9 g_15)) ?_
    refine z_aload_n (q := 133) (i := 3) (x := b_3) dX1_mark_132 rfl rfl rfl ?_
    obtain ⟨g_16, hf⟩ := hf
    refine z_getN 20 2 (q := 136) (v := .ref (b_3 + 16)) rfl (z_lt rfl) (z_L20_T g_16) (z_nwm q1660 rfl) dX1_mark_133 rfl (z_fvR (fun _ _ _ => rfl) (z_L20_P2 g_16)) ?_
    refine z_cSv m_X1_deals [.ref (a0 + 51), .ref (b_3 + 16)] (q := 139) (rc2 := rc_7) (rs2 := rs_9) (st := []) dX1_mark_136 rfl q1204 oS_X1_deals rfl rfl ⟨z_le rfl, z_le rfl⟩ (z_le rfl) rfl  rfl hf (fun h_17 hf => ?_)
    refine z_aload_n (q := 140) (i := 3) (x := b_3) dX1_mark_139 rfl rfl rfl ?_
    refine z_aload_n (q := 141) (i := 0) (x := a0) dX1_mark_140 rfl rfl rfl ?_
    obtain ⟨g_18, hf⟩ := hf
    refine z_get 0 12 (q := 144) (v := .int (h_17.I a0 12)) rfl (z_lt rfl) (z_L0_T g_18) q518 dX1_mark_141 rfl rfl ?_
    obtain ⟨g_19, hf⟩ := hf
    obtain ⟨g_20, hf⟩ := hf
    refine z_putIN 20 3 (q := 147) (x := (h_17.I a0 12)) (v := .int (h_17.I a0 12)) rfl (z_lt rfl) (z_L20_T g_19) (z_nwm q1661 rfl) rfl dX1_mark_144 rfl rfl (z_nb01 g_20) (z_fb01 g_20) (fun _ _ _ => rfl) ?_
    refine z_iconst (q := 148) (v := 1) dX1_mark_147 rfl rfl ?_
    exact z_zret dX1_mark_148 rfl (z_nb01 z_b1) hf
  · have hf := hf.2 hc
    refine z_aload_n (q := 58) (i := 0) (x := a0) dX1_mark_57 rfl rfl rfl ?_
    refine z_get 0 6 (q := 61) (v := .ref (a0 + 23)) rfl (z_lt rfl) (z_L0_T g_1) q512 dX1_mark_58 rfl (z_fvR (fun _ _ _ => rfl) (z_L0_P6 g_1)) ?_
    refine z_aload_n (q := 62) (i := 3) (x := b_3) dX1_mark_61 rfl rfl rfl ?_
    obtain ⟨g_21, hf⟩ := hf
    refine z_getN 20 0 (q := 65) (v := .ref (b_3 + 1)) rfl (z_lt rfl) (z_L20_T g_21) (z_nwm q1656 rfl) dX1_mark_62 rfl (z_fvR (fun _ _ _ => rfl) (z_L20_P0 g_21)) ?_
    obtain ⟨rc_22, g_23, hf⟩ := hf
    obtain ⟨rs_24, g_25, hf⟩ := hf
    refine z_cVv m_X11_beWhole [.ref (b_3 + 1)] ((a0 + 23)) (q := 68) (rc2 := rc_22) (rs2 := rs_24) (st := []) dX1_mark_65 rfl q1295 oV_X11_beWhole rfl rfl ⟨z_le rfl, z_le rfl⟩ (z_le rfl) (z_rcv_of 9 rfl (z_L9_T (z_L0_N6 g_1)) rfl) g_23  g_25 hf (fun h_26 hf => ?_)
    refine z_aload_n (q := 69) (i := 3) (x := b_3) dX1_mark_68 rfl rfl rfl ?_
    obtain ⟨g_27, hf⟩ := hf
    refine z_getN 20 1 (q := 72) (v := .ref (b_3 + 14)) rfl (z_lt rfl) (z_L20_T g_27) (z_nwm q1658 rfl) dX1_mark_69 rfl (z_fvR (fun _ _ _ => rfl) (z_L20_P1 g_27)) ?_
    refine z_aload_n (q := 73) (i := 0) (x := a0) dX1_mark_72 rfl rfl rfl ?_
    obtain ⟨g_28, hf⟩ := hf
    refine z_get 0 8 (q := 76) (v := .ref (a0 + 49)) rfl (z_lt rfl) (z_L0_T g_28) q514 dX1_mark_73 rfl (z_fvR (fun _ _ _ => rfl) (z_L0_P8 g_28)) ?_
    refine z_cSv m_X1_deals [.ref (b_3 + 14), .ref (a0 + 49)] (q := 79) (rc2 := rc_22) (rs2 := rs_24) (st := []) dX1_mark_76 rfl q1204 oS_X1_deals rfl rfl ⟨z_le rfl, z_le rfl⟩ (z_le rfl) rfl  rfl hf (fun h_29 hf => ?_)
    refine z_aload_n (q := 80) (i := 3) (x := b_3) dX1_mark_79 rfl rfl rfl ?_
    obtain ⟨g_30, hf⟩ := hf
    refine z_getN 20 2 (q := 83) (v := .ref (b_3 + 16)) rfl (z_lt rfl) (z_L20_T g_30) (z_nwm q1660 rfl) dX1_mark_80 rfl (z_fvR (fun _ _ _ => rfl) (z_L20_P2 g_30)) ?_
    refine z_aload_n (q := 84) (i := 0) (x := a0) dX1_mark_83 rfl rfl rfl ?_
    obtain ⟨g_31, hf⟩ := hf
    refine z_get 0 9 (q := 87) (v := .ref (a0 + 51)) rfl (z_lt rfl) (z_L0_T g_31) q515 dX1_mark_84 rfl (z_fvR (fun _ _ _ => rfl) (z_L0_P9 g_31)) ?_
    refine z_cSv m_X1_deals [.ref (b_3 + 16), .ref (a0 + 51)] (q := 90) (rc2 := rc_22) (rs2 := rs_24) (st := []) dX1_mark_87 rfl q1204 oS_X1_deals rfl rfl ⟨z_le rfl, z_le rfl⟩ (z_le rfl) rfl  rfl hf (fun h_32 hf => ?_)
    refine z_aload_n (q := 91) (i := 0) (x := a0) dX1_mark_90 rfl rfl rfl ?_
    refine z_aload_n (q := 92) (i := 3) (x := b_3) dX1_mark_91 rfl rfl rfl ?_
    obtain ⟨g_33, hf⟩ := hf
    refine z_getN 20 3 (q := 95) (v := .int (h_32.I b_3 3)) rfl (z_lt rfl) (z_L20_T g_33) (z_nwm q1661 rfl) dX1_mark_92 rfl rfl ?_
    obtain ⟨g_34, hf⟩ := hf
    obtain ⟨g_35, hf⟩ := hf
    refine z_putI 0 12 (q := 98) (x := (h_32.I b_3 3)) (v := .int (h_32.I b_3 3)) rfl (z_lt rfl) (z_L0_T g_34) q518 rfl dX1_mark_95 rfl rfl (z_nb01 g_35) (z_fb01 g_35) (fun _ _ _ => rfl) ?_
    refine z_aload_n (q := 99) (i := 0) (x := a0) dX1_mark_98 rfl rfl rfl ?_
    refine z_iconst (q := 100) (v := 0) dX1_mark_99 rfl rfl ?_
    refine z_putI 0 14 (q := 103) (x := 0) (v := .int 0) rfl (z_lt rfl) (z_L0_T g_34) q520 rfl dX1_mark_100 rfl rfl rfl rfl (fun _ _ _ => rfl) ?_
    refine z_goto (q := 147) dX1_mark_103 rfl ?_
    refine z_iconst (q := 148) (v := 1) dX1_mark_147 rfl rfl ?_
    exact z_zret dX1_mark_148 rfl (z_nb01 z_b1) hf

theorem u_X1_must {l : Launch} {G : z_G} {d : Nat} {mc ms : Nat} {a0 : Nat} {a1 : Nat} {x2 : Int32} {h : z_H} {Q : z_Q} (hst : l.stackTraces = false)  (hf : ∃ mc_1, ∃ ms_2, ∃ rc_3, mc = rc_3 + mc_1 ∧ ∃ rs_5, ms = rs_5 + ms_2 ∧ z_L0 h a0 ∧ z_Ct l G (m_X1_tried mc_1 ms_2) [.ref a0, .int (2 * x2), .ref a1] h (z_Qr (fun b_8 h_9 => z_L0 h_9 a0 ∧ z_Ct l G m_X1_goesToHeap [.ref a0, .ref b_8] h_9 (z_Qi (fun x_11 h_12 => (x_11 = 0 → z_L9 h_12 b_8 ∧ Q (some (.int (if (h_12.I b_8 12) = 0 then 1 else 0))) h_12) ∧ (¬ x_11 = 0 → (x2 = 0 → Q (some (.int 0)) h_12) ∧ (¬ x2 = 0 → z_L9 h_12 b_8 ∧ ∀ v_14 : Int32, v_14 = (if (h_12.I b_8 10) = 0 then 1 else 0) → z_V l G (m_X1_must (d + 1) mc ms) (z_Fm G (m_X1_must (d + 1) mc ms) Q) rc_3 rs_5 h_12 53 [some (.ref a0), none, some (.int x2), some (.ref b_8), some (.int v_14), some (.int 0), none] []))))))) : z_Ct l G (m_X1_must (d + 1) mc ms) [.ref a0, .ref a1, .int x2] h Q := by
  refine z_Ct.of (ls := [some (.ref a0), some (.ref a1), some (.int x2), none, none, none, none]) hst rfl (by decide +kernel) (z_le rfl) rfl ?_
  show z_V l G (m_X1_must (d + 1) mc ms) (z_Fm G (m_X1_must (d + 1) mc ms) Q) mc ms h 0 [some (.ref a0), some (.ref a1), some (.int x2), none, none, none, none] []
  refine z_aload_n (q := 1) (i := 0) (x := a0) dX1_must_0 rfl rfl rfl ?_
  refine z_iconst (q := 2) (v := 2) dX1_must_1 rfl rfl ?_
  refine z_iload_n (q := 3) (i := 2) (x := x2) dX1_must_2 rfl rfl rfl ?_
  refine z_imul (q := 4) dX1_must_3 rfl ?_
  refine z_aload_n (q := 5) (i := 1) (x := a1) dX1_must_4 rfl rfl rfl ?_
  obtain ⟨mc_1, hf⟩ := hf
  obtain ⟨ms_2, hf⟩ := hf
  obtain ⟨rc_3, g_4, hf⟩ := hf
  obtain ⟨rs_5, g_6, hf⟩ := hf
  obtain ⟨g_7, hf⟩ := hf
  refine z_cVr (m_X1_tried mc_1 ms_2) [.int (2 * x2), .ref a1] (a0) (q := 8) (rc2 := rc_3) (rs2 := rs_5) (st := []) dX1_must_5 rfl q1585 oV_X1_tried rfl rfl (z_room_of (by first | exact z_le rfl | (simp only [z_M.d, z_M.nL, z_M.lo, m_X1_tried, m_X1_must]; omega)) (by first | exact z_le rfl | (simp only [z_M.d, z_M.nL, z_M.lo, m_X1_tried, m_X1_must]; omega))) (z_le rfl) (z_rcv_of 0 rfl (z_L0_T g_7) rfl) g_4  g_6 hf (fun b_8 h_9 hf => ?_)
  refine z_astore_n (q := 9) (i := 3) (ls2 := [some (.ref a0), some (.ref a1), some (.int x2), some (.ref b_8), none, none, none]) (x := b_8) dX1_must_8 rfl (z_lt rfl) rfl rfl ?_
  refine z_aload_n (q := 10) (i := 0) (x := a0) dX1_must_9 rfl rfl rfl ?_
  refine z_aload_n (q := 11) (i := 3) (x := b_8) dX1_must_10 rfl rfl rfl ?_
  obtain ⟨g_10, hf⟩ := hf
  refine z_cVi m_X1_goesToHeap [.ref b_8] (a0) (q := 14) (rc2 := rc_3) (rs2 := rs_5) (st := []) dX1_must_11 rfl q1589 oV_X1_goesToHeap rfl rfl (z_room_of (by first | exact z_le rfl | (simp only [z_M.d, z_M.nL, z_M.lo, m_X1_goesToHeap, m_X1_must]; omega)) (by first | exact z_le rfl | (simp only [z_M.d, z_M.nL, z_M.lo, m_X1_goesToHeap, m_X1_must]; omega))) (z_le rfl) (z_rcv_of 0 rfl (z_L0_T g_10) rfl) rfl  rfl hf (fun x_11 h_12 hf => ?_)
  refine z_if_ne (q := 17) (tgt := 30) dX1_must_14 rfl rfl (fun hc => ?_) (fun hc => ?_)
  · have hf := hf.2 hc
    refine z_iload_n (q := 31) (i := 2) (x := x2) dX1_must_30 rfl rfl rfl ?_
    refine z_if_ne (q := 34) (tgt := 36) dX1_must_31 rfl rfl (fun hc => ?_) (fun hc => ?_)
    · have hf := hf.2 hc
      refine z_aload_n (q := 37) (i := 3) (x := b_8) dX1_must_36 rfl rfl rfl ?_
      obtain ⟨g_13, hf⟩ := hf
      refine z_getN 9 10 (q := 40) (v := .int (h_12.I b_8 10)) rfl (z_lt rfl) (z_L9_T g_13) (z_nwm q396 rfl) dX1_must_37 rfl rfl ?_
      have hk : z_V l G (m_X1_must (d + 1) mc ms) (z_Fm G (m_X1_must (d + 1) mc ms) Q) rc_3 rs_5 h_12 48 [some (.ref a0), some (.ref a1), some (.int x2), some (.ref b_8), none, none, none] [.int (if (h_12.I b_8 10) = 0 then 1 else 0)] := by
        refine z_nmI (fun v_14 hv_15 => ?_)
        have hf := hf v_14 hv_15
        refine z_istore (q := 50) (i := 4) (ls2 := [some (.ref a0), some (.ref a1), some (.int x2), some (.ref b_8), some (.int v_14), none, none]) (x := v_14) dX1_must_48 (z_lt rfl) rfl rfl ?_
        refine z_iconst (q := 51) (v := 0) dX1_must_50 rfl rfl ?_
        refine z_istore (q := 53) (i := 5) (ls2 := [some (.ref a0), some (.ref a1), some (.int x2), some (.ref b_8), some (.int v_14), some (.int 0), none]) (x := 0) dX1_must_51 (z_lt rfl) rfl rfl ?_
        refine z_prune [true, false, true, true, true, true, false] (ls2 := [some (.ref a0), none, some (.int x2), some (.ref b_8), some (.int v_14), some (.int 0), none]) rfl ?_
        exact hf
      refine z_if_ne (q := 43) (tgt := 47) dX1_must_40 rfl rfl (fun hc => ?_) (fun hc => ?_)
      · have hk := (z_ite hk).2 hc
        refine z_iconst (q := 48) (v := 0) dX1_must_47 rfl rfl ?_
        exact hk
      · have hk := (z_ite hk).1 hc
        refine z_iconst (q := 44) (v := 1) dX1_must_43 rfl rfl ?_
        refine z_goto (q := 48) dX1_must_44 rfl ?_
        exact hk
    · have hf := hf.1 hc
      refine z_iconst (q := 35) (v := 0) dX1_must_34 rfl rfl ?_
      exact z_zret dX1_must_35 rfl (z_nb01 z_b0) hf
  · have hf := hf.1 hc
    refine z_aload_n (q := 18) (i := 3) (x := b_8) dX1_must_17 rfl rfl rfl ?_
    obtain ⟨g_16, hf⟩ := hf
    refine z_getN 9 12 (q := 21) (v := .int (h_12.I b_8 12)) rfl (z_lt rfl) (z_L9_T g_16) (z_nwm q402 rfl) dX1_must_18 rfl rfl ?_
    have hk : z_V l G (m_X1_must (d + 1) mc ms) (z_Fm G (m_X1_must (d + 1) mc ms) Q) rc_3 rs_5 h_12 29 [some (.ref a0), some (.ref a1), some (.int x2), some (.ref b_8), none, none, none] [.int (if (h_12.I b_8 12) = 0 then 1 else 0)] := by
      exact z_zret dX1_must_29 rfl (z_nb01 (z_bif z_b1 z_b0)) hf
    refine z_if_ne (q := 24) (tgt := 28) dX1_must_21 rfl rfl (fun hc => ?_) (fun hc => ?_)
    · have hk := (z_ite hk).2 hc
      refine z_iconst (q := 29) (v := 0) dX1_must_28 rfl rfl ?_
      exact hk
    · have hk := (z_ite hk).1 hc
      refine z_iconst (q := 25) (v := 1) dX1_must_24 rfl rfl ?_
      refine z_goto (q := 29) dX1_must_25 rfl ?_
      exact hk

theorem b_X1_must_53 {l : Launch} {G : z_G} {d : Nat} {mc ms : Nat} {rc rs : Nat} {a0 : Nat} {x2 : Int32} {a3 : Nat} {x4 : Int32} {x5 : Int32} {h : z_H} {Q : z_Q}  (hf : (5 ≤ x5 → Q (some (.int (if x4 = 0 then 1 else 0))) h) ∧ (¬ 5 ≤ x5 → ∃ mc_1, ∃ ms_2, ∃ rc_3, rc = rc_3 + mc_1 ∧ ∃ rs_5, rs = rs_5 + ms_2 ∧ z_L0 h a0 ∧ z_Ct l G (m_X1_tried mc_1 ms_2) [.ref a0, .int ((2 * x2) + 1), .ref a3] h (z_Qr (fun b_8 h_9 => z_L0 h_9 a0 ∧ ∃ b_11, (h_9.P a0 4) = some b_11 ∧ z_L8 h_9 b_11 ∧ vp_in x5 5 ∧ ∃ b_15, (h_9.P (a0 + 3) (Int32.toNatClampNeg x5)) = some b_15 ∧ z_L9 h_9 b_8 ∧ z_Ct l G m_X11_takes [.ref b_8, .ref (b_11 + 3), .ref b_15] h_9 (z_Qv (fun h_18 => ∃ mc_19, ∃ ms_20, ∃ rc_21, rc_3 = rc_21 + mc_19 ∧ ∃ rs_23, rs_5 = rs_23 + ms_20 ∧ z_L0 h_18 a0 ∧ z_Ct l G (m_X1_must d mc_19 ms_20) [.ref a0, .ref b_8, .int (x2 - 1)] h_18 (z_Qi (fun x_26 h_27 => (x_26 = x4 → (x4 = 0 ∨ x4 = 1) ∧ Q (some (.int x4)) h_27) ∧ (¬ x_26 = x4 → z_V l G (m_X1_must (d + 1) mc ms) (z_Fm G (m_X1_must (d + 1) mc ms) Q) rc_21 rs_23 h_27 53 [some (.ref a0), none, some (.int x2), some (.ref a3), some (.int x4), some (.int (x5 + 1)), none] []))))))))) : z_V l G (m_X1_must (d + 1) mc ms) (z_Fm G (m_X1_must (d + 1) mc ms) Q) rc rs h 53 [some (.ref a0), none, some (.int x2), some (.ref a3), some (.int x4), some (.int x5), none] [] := by
  refine z_iload (q := 55) (i := 5) (x := x5) dX1_must_53 rfl rfl ?_
  refine z_iconst (q := 56) (v := 5) dX1_must_55 rfl rfl ?_
  refine z_icmp_ge (q := 59) (tgt := 113) dX1_must_56 rfl rfl (fun hc => ?_) (fun hc => ?_)
  · have hf := hf.1 hc
    refine z_iload (q := 115) (i := 4) (x := x4) dX1_must_113 rfl rfl ?_
    have hk : z_V l G (m_X1_must (d + 1) mc ms) (z_Fm G (m_X1_must (d + 1) mc ms) Q) rc rs h 123 [some (.ref a0), none, some (.int x2), some (.ref a3), some (.int x4), some (.int x5), none] [.int (if x4 = 0 then 1 else 0)] := by
      exact z_zret dX1_must_123 rfl (z_nb01 (z_bif z_b1 z_b0)) hf
    refine z_if_ne (q := 118) (tgt := 122) dX1_must_115 rfl rfl (fun hc => ?_) (fun hc => ?_)
    · have hk := (z_ite hk).2 hc
      refine z_iconst (q := 123) (v := 0) dX1_must_122 rfl rfl ?_
      exact hk
    · have hk := (z_ite hk).1 hc
      refine z_iconst (q := 119) (v := 1) dX1_must_118 rfl rfl ?_
      refine z_goto (q := 123) dX1_must_119 rfl ?_
      exact hk
  · have hf := hf.2 hc
    refine z_aload_n (q := 60) (i := 0) (x := a0) dX1_must_59 rfl rfl rfl ?_
    refine z_iconst (q := 61) (v := 2) dX1_must_60 rfl rfl ?_
    refine z_iload_n (q := 62) (i := 2) (x := x2) dX1_must_61 rfl rfl rfl ?_
    refine z_imul (q := 63) dX1_must_62 rfl ?_
    refine z_iconst (q := 64) (v := 1) dX1_must_63 rfl rfl ?_
    refine z_iadd (q := 65) dX1_must_64 rfl ?_
    refine z_aload_n (q := 66) (i := 3) (x := a3) dX1_must_65 rfl rfl rfl ?_
    obtain ⟨mc_1, hf⟩ := hf
    obtain ⟨ms_2, hf⟩ := hf
    obtain ⟨rc_3, g_4, hf⟩ := hf
    obtain ⟨rs_5, g_6, hf⟩ := hf
    obtain ⟨g_7, hf⟩ := hf
    refine z_cVr (m_X1_tried mc_1 ms_2) [.int ((2 * x2) + 1), .ref a3] (a0) (q := 69) (rc2 := rc_3) (rs2 := rs_5) (st := []) dX1_must_66 rfl q1585 oV_X1_tried rfl rfl (z_room_of (by first | exact z_le rfl | (simp only [z_M.d, z_M.nL, z_M.lo, m_X1_tried, m_X1_must]; omega)) (by first | exact z_le rfl | (simp only [z_M.d, z_M.nL, z_M.lo, m_X1_tried, m_X1_must]; omega))) (z_le rfl) (z_rcv_of 0 rfl (z_L0_T g_7) rfl) g_4  g_6 hf (fun b_8 h_9 hf => ?_)
    refine z_astore (q := 71) (i := 6) (ls2 := [some (.ref a0), none, some (.int x2), some (.ref a3), some (.int x4), some (.int x5), some (.ref b_8)]) (x := b_8) dX1_must_69 (z_lt rfl) rfl rfl ?_
    refine z_aload (q := 73) (i := 6) (x := b_8) dX1_must_71 rfl rfl ?_
    refine z_aload_n (q := 74) (i := 0) (x := a0) dX1_must_73 rfl rfl rfl ?_
    obtain ⟨g_10, hf⟩ := hf
    obtain ⟨b_11, g_12, hf⟩ := hf
    refine z_get 0 4 (q := 77) (v := .ref b_11) rfl (z_lt rfl) (z_L0_T g_10) q510 dX1_must_74 rfl (z_fvR (fun _ _ _ => rfl) g_12) ?_
    obtain ⟨g_13, hf⟩ := hf
    refine z_getN 8 1 (q := 80) (v := .ref (b_11 + 3)) rfl (z_lt rfl) (z_L8_T g_13) (z_nwm q334 rfl) dX1_must_77 rfl (z_fvR (fun _ _ _ => rfl) (z_L8_P1 g_13)) ?_
    refine z_aload_n (q := 81) (i := 0) (x := a0) dX1_must_80 rfl rfl rfl ?_
    refine z_get 0 2 (q := 84) (v := .ref (a0 + 3)) rfl (z_lt rfl) (z_L0_T g_10) q507 dX1_must_81 rfl (z_fvR (fun _ _ _ => rfl) (z_L0_P2 g_10)) ?_
    refine z_iload (q := 86) (i := 5) (x := x5) dX1_must_84 rfl rfl ?_
    obtain ⟨g_14, hf⟩ := hf
    obtain ⟨b_15, g_16, hf⟩ := hf
    refine z_aald (q := 87) (n := 5) (v := .ref b_15) (z_L0_A2 g_10) (by decide) g_14 dX1_must_86 rfl (z_rfR g_16) ?_
    obtain ⟨g_17, hf⟩ := hf
    refine z_cVv m_X11_takes [.ref (b_11 + 3), .ref b_15] (b_8) (q := 90) (rc2 := rc_3) (rs2 := rs_5) (st := []) dX1_must_87 rfl q1368 oV_X11_takes rfl rfl (z_room_of (by first | exact z_le rfl | (simp only [z_M.d, z_M.nL, z_M.lo, m_X11_takes, m_X1_must]; omega)) (by first | exact z_le rfl | (simp only [z_M.d, z_M.nL, z_M.lo, m_X11_takes, m_X1_must]; omega))) (z_le rfl) (z_rcv_of 9 rfl (z_L9_T g_17) rfl) rfl  rfl hf (fun h_18 hf => ?_)
    refine z_aload_n (q := 91) (i := 0) (x := a0) dX1_must_90 rfl rfl rfl ?_
    refine z_aload (q := 93) (i := 6) (x := b_8) dX1_must_91 rfl rfl ?_
    refine z_iload_n (q := 94) (i := 2) (x := x2) dX1_must_93 rfl rfl rfl ?_
    refine z_iconst (q := 95) (v := 1) dX1_must_94 rfl rfl ?_
    refine z_isub (q := 96) dX1_must_95 rfl ?_
    obtain ⟨mc_19, hf⟩ := hf
    obtain ⟨ms_20, hf⟩ := hf
    obtain ⟨rc_21, g_22, hf⟩ := hf
    obtain ⟨rs_23, g_24, hf⟩ := hf
    obtain ⟨g_25, hf⟩ := hf
    refine z_cVi (m_X1_must d mc_19 ms_20) [.ref b_8, .int (x2 - 1)] (a0) (q := 99) (rc2 := rc_21) (rs2 := rs_23) (st := []) dX1_must_96 rfl q1597 oV_X1_must rfl rfl (z_room_of (by first | exact z_le rfl | (simp only [z_M.d, z_M.nL, z_M.lo, m_X1_must, m_X1_must]; omega)) (by first | exact z_le rfl | (simp only [z_M.d, z_M.nL, z_M.lo, m_X1_must, m_X1_must]; omega))) (z_le rfl) (z_rcv_of 0 rfl (z_L0_T g_25) rfl) g_22  g_24 hf (fun x_26 h_27 hf => ?_)
    refine z_iload (q := 101) (i := 4) (x := x4) dX1_must_99 rfl rfl ?_
    refine z_icmp_ne (q := 104) (tgt := 107) dX1_must_101 rfl rfl (fun hc => ?_) (fun hc => ?_)
    · have hf := hf.2 hc
      refine z_iinc (q := 110) (i := 5) (x := x5) (v := (x5 + 1)) (ls2 := [some (.ref a0), none, some (.int x2), some (.ref a3), some (.int x4), some (.int (x5 + 1)), some (.ref b_8)]) dX1_must_107 rfl rfl (z_lt rfl) rfl rfl ?_
      refine z_goto (q := 53) dX1_must_110 rfl ?_
      refine z_prune [true, false, true, true, true, true, false] (ls2 := [some (.ref a0), none, some (.int x2), some (.ref a3), some (.int x4), some (.int (x5 + 1)), none]) rfl ?_
      exact hf
    · have hf := hf.1 hc
      refine z_iload (q := 106) (i := 4) (x := x4) dX1_must_104 rfl rfl ?_
      obtain ⟨g_28, hf⟩ := hf
      exact z_zret dX1_must_106 rfl (z_nb01 g_28) hf

theorem u_X1_nextRow {l : Launch} {G : z_G} {a0 : Nat} {h : z_H} {Q : z_Q} (hst : l.stackTraces = false)  (hf : z_L0 h a0 ∧ ∀ v_2 : Int32, v_2 = ((h.I a0 16) - 2) → z_V l G m_X1_nextRow (z_Fm G m_X1_nextRow Q) 0 0 h 7 [some (.ref a0), some (.int v_2), none, none, none] []) : z_Ct l G m_X1_nextRow [.ref a0] h Q := by
  refine z_Ct.of (ls := [some (.ref a0), none, none, none, none]) hst rfl (by decide +kernel) (z_le rfl) rfl ?_
  show z_V l G m_X1_nextRow (z_Fm G m_X1_nextRow Q) 0 0 h 0 [some (.ref a0), none, none, none, none] []
  refine z_aload_n (q := 1) (i := 0) (x := a0) dX1_nextRow_0 rfl rfl rfl ?_
  obtain ⟨g_1, hf⟩ := hf
  refine z_get 0 16 (q := 4) (v := .int (h.I a0 16)) rfl (z_lt rfl) (z_L0_T g_1) q522 dX1_nextRow_1 rfl rfl ?_
  refine z_iconst (q := 5) (v := 2) dX1_nextRow_4 rfl rfl ?_
  refine z_isub (q := 6) dX1_nextRow_5 rfl ?_
  refine z_nmI (fun v_2 hv_3 => ?_)
  have hf := hf v_2 hv_3
  refine z_istore_n (q := 7) (i := 1) (ls2 := [some (.ref a0), some (.int v_2), none, none, none]) (x := v_2) dX1_nextRow_6 rfl (z_lt rfl) rfl rfl ?_
  exact hf

theorem b_X1_nextRow_7 {l : Launch} {G : z_G} {a0 : Nat} {x1 : Int32} {h : z_H} {Q : z_Q}  (hf : (x1 < 0 → (0 ≤ x1 → z_L0 h a0 ∧ ∀ v_2 : Int32, v_2 = ((h.I a0 16) - 1) → z_V l G m_X1_nextRow (z_Fm G m_X1_nextRow Q) 0 0 h 47 [some (.ref a0), some (.int x1), some (.int v_2), none, none] []) ∧ (¬ 0 ≤ x1 → Q (some (.int 0)) h)) ∧ (¬ x1 < 0 → z_L0 h a0 ∧ vp_in x1 24 ∧ vp_in (x1 + 1) 24 ∧ ((h.I (a0 + 55) (Int32.toNatClampNeg x1)) < (h.I (a0 + 55) (Int32.toNatClampNeg (x1 + 1))) → (0 ≤ x1 → ∀ v_7 : Int32, v_7 = ((h.I a0 16) - 1) → z_V l G m_X1_nextRow (z_Fm G m_X1_nextRow Q) 0 0 h 47 [some (.ref a0), some (.int x1), some (.int v_7), none, none] []) ∧ (¬ 0 ≤ x1 → Q (some (.int 0)) h)) ∧ (¬ (h.I (a0 + 55) (Int32.toNatClampNeg x1)) < (h.I (a0 + 55) (Int32.toNatClampNeg (x1 + 1))) → z_V l G m_X1_nextRow (z_Fm G m_X1_nextRow Q) 0 0 h 7 [some (.ref a0), some (.int (x1 + (-1))), none, none, none] []))) : z_V l G m_X1_nextRow (z_Fm G m_X1_nextRow Q) 0 0 h 7 [some (.ref a0), some (.int x1), none, none, none] [] := by
  refine z_iload_n (q := 8) (i := 1) (x := x1) dX1_nextRow_7 rfl rfl rfl ?_
  refine z_if_lt (q := 11) (tgt := 34) dX1_nextRow_8 rfl rfl (fun hc => ?_) (fun hc => ?_)
  · have hf := hf.1 hc
    refine z_iload_n (q := 35) (i := 1) (x := x1) dX1_nextRow_34 rfl rfl rfl ?_
    refine z_if_ge (q := 38) (tgt := 40) dX1_nextRow_35 rfl rfl (fun hc => ?_) (fun hc => ?_)
    · have hf := hf.1 hc
      refine z_aload_n (q := 41) (i := 0) (x := a0) dX1_nextRow_40 rfl rfl rfl ?_
      obtain ⟨g_1, hf⟩ := hf
      refine z_get 0 16 (q := 44) (v := .int (h.I a0 16)) rfl (z_lt rfl) (z_L0_T g_1) q522 dX1_nextRow_41 rfl rfl ?_
      refine z_iconst (q := 45) (v := 1) dX1_nextRow_44 rfl rfl ?_
      refine z_isub (q := 46) dX1_nextRow_45 rfl ?_
      refine z_nmI (fun v_2 hv_3 => ?_)
      have hf := hf v_2 hv_3
      refine z_istore_n (q := 47) (i := 2) (ls2 := [some (.ref a0), some (.int x1), some (.int v_2), none, none]) (x := v_2) dX1_nextRow_46 rfl (z_lt rfl) rfl rfl ?_
      exact hf
    · have hf := hf.2 hc
      refine z_iconst (q := 39) (v := 0) dX1_nextRow_38 rfl rfl ?_
      exact z_zret dX1_nextRow_39 rfl (z_nb01 z_b0) hf
  · have hf := hf.2 hc
    refine z_aload_n (q := 12) (i := 0) (x := a0) dX1_nextRow_11 rfl rfl rfl ?_
    obtain ⟨g_4, hf⟩ := hf
    refine z_get 0 15 (q := 15) (v := .ref (a0 + 55)) rfl (z_lt rfl) (z_L0_T g_4) q521 dX1_nextRow_12 rfl (z_fvR (fun _ _ _ => rfl) (z_L0_P15 g_4)) ?_
    refine z_iload_n (q := 16) (i := 1) (x := x1) dX1_nextRow_15 rfl rfl rfl ?_
    obtain ⟨g_5, hf⟩ := hf
    refine z_iald (q := 17) (n := 24) (z_L0_A15 g_4) g_5 dX1_nextRow_16 rfl ?_
    refine z_aload_n (q := 18) (i := 0) (x := a0) dX1_nextRow_17 rfl rfl rfl ?_
    refine z_get 0 15 (q := 21) (v := .ref (a0 + 55)) rfl (z_lt rfl) (z_L0_T g_4) q521 dX1_nextRow_18 rfl (z_fvR (fun _ _ _ => rfl) (z_L0_P15 g_4)) ?_
    refine z_iload_n (q := 22) (i := 1) (x := x1) dX1_nextRow_21 rfl rfl rfl ?_
    refine z_iconst (q := 23) (v := 1) dX1_nextRow_22 rfl rfl ?_
    refine z_iadd (q := 24) dX1_nextRow_23 rfl ?_
    obtain ⟨g_6, hf⟩ := hf
    refine z_iald (q := 25) (n := 24) (z_L0_A15 g_4) g_6 dX1_nextRow_24 rfl ?_
    refine z_icmp_lt (q := 28) (tgt := 34) dX1_nextRow_25 rfl rfl (fun hc => ?_) (fun hc => ?_)
    · have hf := hf.1 hc
      refine z_iload_n (q := 35) (i := 1) (x := x1) dX1_nextRow_34 rfl rfl rfl ?_
      refine z_if_ge (q := 38) (tgt := 40) dX1_nextRow_35 rfl rfl (fun hc => ?_) (fun hc => ?_)
      · have hf := hf.1 hc
        refine z_aload_n (q := 41) (i := 0) (x := a0) dX1_nextRow_40 rfl rfl rfl ?_
        refine z_get 0 16 (q := 44) (v := .int (h.I a0 16)) rfl (z_lt rfl) (z_L0_T g_4) q522 dX1_nextRow_41 rfl rfl ?_
        refine z_iconst (q := 45) (v := 1) dX1_nextRow_44 rfl rfl ?_
        refine z_isub (q := 46) dX1_nextRow_45 rfl ?_
        refine z_nmI (fun v_7 hv_8 => ?_)
        have hf := hf v_7 hv_8
        refine z_istore_n (q := 47) (i := 2) (ls2 := [some (.ref a0), some (.int x1), some (.int v_7), none, none]) (x := v_7) dX1_nextRow_46 rfl (z_lt rfl) rfl rfl ?_
        exact hf
      · have hf := hf.2 hc
        refine z_iconst (q := 39) (v := 0) dX1_nextRow_38 rfl rfl ?_
        exact z_zret dX1_nextRow_39 rfl (z_nb01 z_b0) hf
    · have hf := hf.2 hc
      refine z_iinc (q := 31) (i := 1) (x := x1) (v := (x1 + (-1))) (ls2 := [some (.ref a0), some (.int (x1 + (-1))), none, none, none]) dX1_nextRow_28 rfl rfl (z_lt rfl) rfl rfl ?_
      refine z_goto (q := 7) dX1_nextRow_31 rfl ?_
      exact hf

theorem b_X1_nextRow_47 {l : Launch} {G : z_G} {a0 : Nat} {x1 : Int32} {x2 : Int32} {h : z_H} {Q : z_Q}  (hf : z_L0 h a0 ∧ vp_in x2 24 ∧ vp_in x1 24 ∧ ((h.I (a0 + 55) (Int32.toNatClampNeg x1)) < (h.I (a0 + 55) (Int32.toNatClampNeg x2)) → z_Ct l G m_X1_changes [.ref a0, .int x1, .int x2] h (z_Qv (fun h_4 => z_L0 h_4 a0 ∧ ∀ v_6 : Int32, v_6 = ((h_4.I a0 16) - 1) → z_V l G m_X1_nextRow (z_Fm G m_X1_nextRow Q) 0 0 h_4 86 [some (.ref a0), none, none, some (.int (x1 + 1)), some (.int v_6)] []))) ∧ (¬ (h.I (a0 + 55) (Int32.toNatClampNeg x1)) < (h.I (a0 + 55) (Int32.toNatClampNeg x2)) → z_V l G m_X1_nextRow (z_Fm G m_X1_nextRow Q) 0 0 h 47 [some (.ref a0), some (.int x1), some (.int (x2 + (-1))), none, none] [])) : z_V l G m_X1_nextRow (z_Fm G m_X1_nextRow Q) 0 0 h 47 [some (.ref a0), some (.int x1), some (.int x2), none, none] [] := by
  refine z_aload_n (q := 48) (i := 0) (x := a0) dX1_nextRow_47 rfl rfl rfl ?_
  obtain ⟨g_1, hf⟩ := hf
  refine z_get 0 15 (q := 51) (v := .ref (a0 + 55)) rfl (z_lt rfl) (z_L0_T g_1) q521 dX1_nextRow_48 rfl (z_fvR (fun _ _ _ => rfl) (z_L0_P15 g_1)) ?_
  refine z_iload_n (q := 52) (i := 2) (x := x2) dX1_nextRow_51 rfl rfl rfl ?_
  obtain ⟨g_2, hf⟩ := hf
  refine z_iald (q := 53) (n := 24) (z_L0_A15 g_1) g_2 dX1_nextRow_52 rfl ?_
  refine z_aload_n (q := 54) (i := 0) (x := a0) dX1_nextRow_53 rfl rfl rfl ?_
  refine z_get 0 15 (q := 57) (v := .ref (a0 + 55)) rfl (z_lt rfl) (z_L0_T g_1) q521 dX1_nextRow_54 rfl (z_fvR (fun _ _ _ => rfl) (z_L0_P15 g_1)) ?_
  refine z_iload_n (q := 58) (i := 1) (x := x1) dX1_nextRow_57 rfl rfl rfl ?_
  obtain ⟨g_3, hf⟩ := hf
  refine z_iald (q := 59) (n := 24) (z_L0_A15 g_1) g_3 dX1_nextRow_58 rfl ?_
  refine z_icmp_gt (q := 62) (tgt := 68) dX1_nextRow_59 rfl rfl (fun hc => ?_) (fun hc => ?_)
  · have hf := hf.1 hc
    refine z_aload_n (q := 69) (i := 0) (x := a0) dX1_nextRow_68 rfl rfl rfl ?_
    refine z_iload_n (q := 70) (i := 1) (x := x1) dX1_nextRow_69 rfl rfl rfl ?_
    refine z_iload_n (q := 71) (i := 2) (x := x2) dX1_nextRow_70 rfl rfl rfl ?_
    refine z_cVv m_X1_changes [.int x1, .int x2] (a0) (q := 74) (rc2 := 0) (rs2 := 0) (st := []) dX1_nextRow_71 rfl q1469 oV_X1_changes rfl rfl ⟨z_le rfl, z_le rfl⟩ (z_le rfl) (z_rcv_of 0 rfl (z_L0_T g_1) rfl) rfl  rfl hf (fun h_4 hf => ?_)
    refine z_iload_n (q := 75) (i := 1) (x := x1) dX1_nextRow_74 rfl rfl rfl ?_
    refine z_iconst (q := 76) (v := 1) dX1_nextRow_75 rfl rfl ?_
    refine z_iadd (q := 77) dX1_nextRow_76 rfl ?_
    refine z_istore_n (q := 78) (i := 3) (ls2 := [some (.ref a0), some (.int x1), some (.int x2), some (.int (x1 + 1)), none]) (x := (x1 + 1)) dX1_nextRow_77 rfl (z_lt rfl) rfl rfl ?_
    refine z_aload_n (q := 79) (i := 0) (x := a0) dX1_nextRow_78 rfl rfl rfl ?_
    obtain ⟨g_5, hf⟩ := hf
    refine z_get 0 16 (q := 82) (v := .int (h_4.I a0 16)) rfl (z_lt rfl) (z_L0_T g_5) q522 dX1_nextRow_79 rfl rfl ?_
    refine z_iconst (q := 83) (v := 1) dX1_nextRow_82 rfl rfl ?_
    refine z_isub (q := 84) dX1_nextRow_83 rfl ?_
    refine z_nmI (fun v_6 hv_7 => ?_)
    have hf := hf v_6 hv_7
    refine z_istore (q := 86) (i := 4) (ls2 := [some (.ref a0), some (.int x1), some (.int x2), some (.int (x1 + 1)), some (.int v_6)]) (x := v_6) dX1_nextRow_84 (z_lt rfl) rfl rfl ?_
    refine z_prune [true, false, false, true, true] (ls2 := [some (.ref a0), none, none, some (.int (x1 + 1)), some (.int v_6)]) rfl ?_
    exact hf
  · have hf := hf.2 hc
    refine z_iinc (q := 65) (i := 2) (x := x2) (v := (x2 + (-1))) (ls2 := [some (.ref a0), some (.int x1), some (.int (x2 + (-1))), none, none]) dX1_nextRow_62 rfl rfl (z_lt rfl) rfl rfl ?_
    refine z_goto (q := 47) dX1_nextRow_65 rfl ?_
    exact hf

theorem b_X1_nextRow_86 {l : Launch} {G : z_G} {a0 : Nat} {x3 : Int32} {x4 : Int32} {h : z_H} {Q : z_Q}  (hf : (x4 ≤ x3 → Q (some (.int 1)) h) ∧ (¬ x4 ≤ x3 → z_L0 h a0 ∧ z_Ct l G m_X1_changes [.ref a0, .int x3, .int x4] h (z_Qv (fun h_2 => z_V l G m_X1_nextRow (z_Fm G m_X1_nextRow Q) 0 0 h_2 86 [some (.ref a0), none, none, some (.int (x3 + 1)), some (.int (x4 + (-1)))] [])))) : z_V l G m_X1_nextRow (z_Fm G m_X1_nextRow Q) 0 0 h 86 [some (.ref a0), none, none, some (.int x3), some (.int x4)] [] := by
  refine z_iload_n (q := 87) (i := 3) (x := x3) dX1_nextRow_86 rfl rfl rfl ?_
  refine z_iload (q := 89) (i := 4) (x := x4) dX1_nextRow_87 rfl rfl ?_
  refine z_icmp_ge (q := 92) (tgt := 108) dX1_nextRow_89 rfl rfl (fun hc => ?_) (fun hc => ?_)
  · have hf := hf.1 hc
    refine z_iconst (q := 109) (v := 1) dX1_nextRow_108 rfl rfl ?_
    exact z_zret dX1_nextRow_109 rfl (z_nb01 z_b1) hf
  · have hf := hf.2 hc
    refine z_aload_n (q := 93) (i := 0) (x := a0) dX1_nextRow_92 rfl rfl rfl ?_
    refine z_iload_n (q := 94) (i := 3) (x := x3) dX1_nextRow_93 rfl rfl rfl ?_
    refine z_iload (q := 96) (i := 4) (x := x4) dX1_nextRow_94 rfl rfl ?_
    obtain ⟨g_1, hf⟩ := hf
    refine z_cVv m_X1_changes [.int x3, .int x4] (a0) (q := 99) (rc2 := 0) (rs2 := 0) (st := []) dX1_nextRow_96 rfl q1469 oV_X1_changes rfl rfl ⟨z_le rfl, z_le rfl⟩ (z_le rfl) (z_rcv_of 0 rfl (z_L0_T g_1) rfl) rfl  rfl hf (fun h_2 hf => ?_)
    refine z_iinc (q := 102) (i := 3) (x := x3) (v := (x3 + 1)) (ls2 := [some (.ref a0), none, none, some (.int (x3 + 1)), some (.int x4)]) dX1_nextRow_99 rfl rfl (z_lt rfl) rfl rfl ?_
    refine z_iinc (q := 105) (i := 4) (x := x4) (v := (x4 + (-1))) (ls2 := [some (.ref a0), none, none, some (.int (x3 + 1)), some (.int (x4 + (-1)))]) dX1_nextRow_102 rfl rfl (z_lt rfl) rfl rfl ?_
    refine z_goto (q := 86) dX1_nextRow_105 rfl ?_
    exact hf

theorem u_X1_odds {l : Launch} {G : z_G} {a0 : Nat} {x1 : Int32} {h : z_H} {Q : z_Q} (hst : l.stackTraces = false)  (hf : z_Ct l G m_X1_in [.int x1, .int 0, .int 2] h (z_Qi (fun x_1 h_2 => (x_1 = 0 → Q (some (.int (-1))) h_2) ∧ (¬ x_1 = 0 → z_L0 h_2 a0 ∧ z_Ct l G m_X1_goesThrough [.ref a0] h_2 (z_Qi (fun x_4 h_5 => (x_4 = 0 → Q (some (.int (-1))) h_5) ∧ (¬ x_4 = 0 → z_L0 h_5 a0 ∧ ((2 ≤ x1 → vp_in 0 4 ∧ vp_in 1 4 ∧ vp_in 2 4 ∧ vp_in 3 4 ∧ True) ∧ (¬ 2 ≤ x1 → vp_in x1 4 ∧ True)) ∧ Q (some (.int (if 2 ≤ x1 then ((((h_5.I (a0 + 56) (Int32.toNatClampNeg 0)) + (h_5.I (a0 + 56) (Int32.toNatClampNeg 1))) + (h_5.I (a0 + 56) (Int32.toNatClampNeg 2))) + (h_5.I (a0 + 56) (Int32.toNatClampNeg 3))) else (h_5.I (a0 + 56) (Int32.toNatClampNeg x1))))) h_5))))))) : z_Ct l G m_X1_odds [.ref a0, .int x1] h Q := by
  refine z_Ct.of (ls := [some (.ref a0), some (.int x1)]) hst rfl (by decide +kernel) (z_le rfl) rfl ?_
  show z_V l G m_X1_odds (z_Fm G m_X1_odds Q) 1 8 h 0 [some (.ref a0), some (.int x1)] []
  refine z_iload_n (q := 1) (i := 1) (x := x1) dX1_odds_0 rfl rfl rfl ?_
  refine z_iconst (q := 2) (v := 0) dX1_odds_1 rfl rfl ?_
  refine z_iconst (q := 3) (v := 2) dX1_odds_2 rfl rfl ?_
  refine z_cSi m_X1_in [.int x1, .int 0, .int 2] (q := 6) (rc2 := 1) (rs2 := 8) (st := []) dX1_odds_3 rfl q1259 oS_X1_in rfl rfl ⟨z_le rfl, z_le rfl⟩ (z_le rfl) rfl  rfl hf (fun x_1 h_2 hf => ?_)
  refine z_if_eq (q := 9) (tgt := 16) dX1_odds_6 rfl rfl (fun hc => ?_) (fun hc => ?_)
  · have hf := hf.1 hc
    refine z_iconst (q := 17) (v := (-1)) dX1_odds_16 rfl rfl ?_
    exact z_iret dX1_odds_17 rfl hf
  · have hf := hf.2 hc
    refine z_aload_n (q := 10) (i := 0) (x := a0) dX1_odds_9 rfl rfl rfl ?_
    obtain ⟨g_3, hf⟩ := hf
    refine z_cVi m_X1_goesThrough [] (a0) (q := 13) (rc2 := 0) (rs2 := 0) (st := []) dX1_odds_10 rfl q1523 oV_X1_goesThrough rfl rfl ⟨z_le rfl, z_le rfl⟩ (z_le rfl) (z_rcv_of 0 rfl (z_L0_T g_3) rfl) rfl  rfl hf (fun x_4 h_5 hf => ?_)
    refine z_if_ne (q := 16) (tgt := 18) dX1_odds_13 rfl rfl (fun hc => ?_) (fun hc => ?_)
    · have hf := hf.2 hc
      refine z_iload_n (q := 19) (i := 1) (x := x1) dX1_odds_18 rfl rfl rfl ?_
      refine z_iconst (q := 20) (v := 2) dX1_odds_19 rfl rfl ?_
      obtain ⟨g_6, hf⟩ := hf
      obtain ⟨hsc, hf⟩ := hf
      have hk : z_V l G m_X1_odds (z_Fm G m_X1_odds Q) 0 0 h_5 59 [some (.ref a0), some (.int x1)] [.int (if 2 ≤ x1 then ((((h_5.I (a0 + 56) (Int32.toNatClampNeg 0)) + (h_5.I (a0 + 56) (Int32.toNatClampNeg 1))) + (h_5.I (a0 + 56) (Int32.toNatClampNeg 2))) + (h_5.I (a0 + 56) (Int32.toNatClampNeg 3))) else (h_5.I (a0 + 56) (Int32.toNatClampNeg x1)))] := by
        exact z_iret dX1_odds_59 rfl hf
      refine z_icmp_ge (q := 23) (tgt := 32) dX1_odds_20 rfl rfl (fun hc => ?_) (fun hc => ?_)
      · have hk := (z_ite hk).1 hc
        have hsc := hsc.1 hc
        obtain ⟨g_7, hsc⟩ := hsc
        obtain ⟨g_8, hsc⟩ := hsc
        obtain ⟨g_9, hsc⟩ := hsc
        obtain ⟨g_10, hsc⟩ := hsc
        refine z_aload_n (q := 33) (i := 0) (x := a0) dX1_odds_32 rfl rfl rfl ?_
        refine z_get 0 17 (q := 36) (v := .ref (a0 + 56)) rfl (z_lt rfl) (z_L0_T g_6) q523 dX1_odds_33 rfl (z_fvR (fun _ _ _ => rfl) (z_L0_P17 g_6)) ?_
        refine z_iconst (q := 37) (v := 0) dX1_odds_36 rfl rfl ?_
        refine z_iald (q := 38) (n := 4) (z_L0_A17 g_6) g_7 dX1_odds_37 rfl ?_
        refine z_aload_n (q := 39) (i := 0) (x := a0) dX1_odds_38 rfl rfl rfl ?_
        refine z_get 0 17 (q := 42) (v := .ref (a0 + 56)) rfl (z_lt rfl) (z_L0_T g_6) q523 dX1_odds_39 rfl (z_fvR (fun _ _ _ => rfl) (z_L0_P17 g_6)) ?_
        refine z_iconst (q := 43) (v := 1) dX1_odds_42 rfl rfl ?_
        refine z_iald (q := 44) (n := 4) (z_L0_A17 g_6) g_8 dX1_odds_43 rfl ?_
        refine z_iadd (q := 45) dX1_odds_44 rfl ?_
        refine z_aload_n (q := 46) (i := 0) (x := a0) dX1_odds_45 rfl rfl rfl ?_
        refine z_get 0 17 (q := 49) (v := .ref (a0 + 56)) rfl (z_lt rfl) (z_L0_T g_6) q523 dX1_odds_46 rfl (z_fvR (fun _ _ _ => rfl) (z_L0_P17 g_6)) ?_
        refine z_iconst (q := 50) (v := 2) dX1_odds_49 rfl rfl ?_
        refine z_iald (q := 51) (n := 4) (z_L0_A17 g_6) g_9 dX1_odds_50 rfl ?_
        refine z_iadd (q := 52) dX1_odds_51 rfl ?_
        refine z_aload_n (q := 53) (i := 0) (x := a0) dX1_odds_52 rfl rfl rfl ?_
        refine z_get 0 17 (q := 56) (v := .ref (a0 + 56)) rfl (z_lt rfl) (z_L0_T g_6) q523 dX1_odds_53 rfl (z_fvR (fun _ _ _ => rfl) (z_L0_P17 g_6)) ?_
        refine z_iconst (q := 57) (v := 3) dX1_odds_56 rfl rfl ?_
        refine z_iald (q := 58) (n := 4) (z_L0_A17 g_6) g_10 dX1_odds_57 rfl ?_
        refine z_iadd (q := 59) dX1_odds_58 rfl ?_
        exact hk
      · have hk := (z_ite hk).2 hc
        have hsc := hsc.2 hc
        obtain ⟨g_11, hsc⟩ := hsc
        refine z_aload_n (q := 24) (i := 0) (x := a0) dX1_odds_23 rfl rfl rfl ?_
        refine z_get 0 17 (q := 27) (v := .ref (a0 + 56)) rfl (z_lt rfl) (z_L0_T g_6) q523 dX1_odds_24 rfl (z_fvR (fun _ _ _ => rfl) (z_L0_P17 g_6)) ?_
        refine z_iload_n (q := 28) (i := 1) (x := x1) dX1_odds_27 rfl rfl rfl ?_
        refine z_iald (q := 29) (n := 4) (z_L0_A17 g_6) g_11 dX1_odds_28 rfl ?_
        refine z_goto (q := 59) dX1_odds_29 rfl ?_
        exact hk
    · have hf := hf.1 hc
      refine z_iconst (q := 17) (v := (-1)) dX1_odds_16 rfl rfl ?_
      exact z_iret dX1_odds_17 rfl hf

theorem u_X1_offer {l : Launch} {G : z_G} {a0 : Nat} {h : z_H} {Q : z_Q} (hst : l.stackTraces = false)  (hf : z_L0 h a0 ∧ vp_in 0 4 ∧ ∃ b_3, (h.P a0 4) = some b_3 ∧ z_L8 h b_3 ∧ z_Ct l G m_X11_worth [.ref (a0 + 23), .int 0, .ref (b_3 + 3)] (h.sI (a0 + 53) (Int32.toNatClampNeg 0) ((h.I (a0 + 23) 6) - (h.I (a0 + 23) 7))) (z_Qi (fun x_6 h_7 => z_L0 h_7 a0 ∧ ∃ b_9, (h_7.P a0 4) = some b_9 ∧ z_L8 h_7 b_9 ∧ z_Ct l G m_X11_worth [.ref (a0 + 23), .int 1, .ref (b_9 + 3)] h_7 (z_Qi (fun x_12 h_13 => ∃ n_14, h_13.T (a0 + 53) = (1, n_14) ∧ vp_in 1 n_14 ∧ z_L0 h_13 a0 ∧ vp_in 2 4 ∧ vp_in 3 4 ∧ ∃ b_20, (h_13.P a0 4) = some b_20 ∧ z_L8 h_13 b_20 ∧ ((h_13.P b_20 6) = none → Q (some (.int 10)) (((h_13.sI (a0 + 53) (Int32.toNatClampNeg 1) (x_6 - x_12)).sI (a0 + 53) (Int32.toNatClampNeg 2) (h_13.I (a0 + 23) 14)).sI (a0 + 53) (Int32.toNatClampNeg 3) (h_13.I (a0 + 23) 13))) ∧ (∀ b_23, (h_13.P b_20 6) = some b_23 → ∃ b_25, (h_13.P a0 4) = some b_25 ∧ z_L8 h_13 b_25 ∧ ∃ b_28, (h_13.P b_25 6) = some b_28 ∧ z_iworked l G 1010 [.ref b_28, .ref (a0 + 53)] (((h_13.sI (a0 + 53) (Int32.toNatClampNeg 1) (x_6 - x_12)).sI (a0 + 53) (Int32.toNatClampNeg 2) (h_13.I (a0 + 23) 14)).sI (a0 + 53) (Int32.toNatClampNeg 3) (h_13.I (a0 + 23) 13)) (z_Qi (fun x_31 h_30 => z_Ct l G m_J5_min [.int 99, .int x_31] h_30 (z_Qi (fun x_32 h_33 => z_Ct l G m_J5_max [.int 0, .int x_32] h_33 (z_Qi (fun x_34 h_35 => Q (some (.int x_34)) h_35)))))))))))) : z_Ct l G m_X1_offer [.ref a0] h Q := by
  refine z_Ct.of (ls := [some (.ref a0)]) hst rfl (by decide +kernel) (z_le rfl) rfl ?_
  show z_V l G m_X1_offer (z_Fm G m_X1_offer Q) 0 0 h 0 [some (.ref a0)] []
  refine z_aload_n (q := 1) (i := 0) (x := a0) dX1_offer_0 rfl rfl rfl ?_
  obtain ⟨g_1, hf⟩ := hf
  refine z_get 0 10 (q := 4) (v := .ref (a0 + 53)) rfl (z_lt rfl) (z_L0_T g_1) q516 dX1_offer_1 rfl (z_fvR (fun _ _ _ => rfl) (z_L0_P10 g_1)) ?_
  refine z_iconst (q := 5) (v := 0) dX1_offer_4 rfl rfl ?_
  refine z_aload_n (q := 6) (i := 0) (x := a0) dX1_offer_5 rfl rfl rfl ?_
  refine z_get 0 6 (q := 9) (v := .ref (a0 + 23)) rfl (z_lt rfl) (z_L0_T g_1) q512 dX1_offer_6 rfl (z_fvR (fun _ _ _ => rfl) (z_L0_P6 g_1)) ?_
  refine z_getN 9 6 (q := 12) (v := .int (h.I (a0 + 23) 6)) rfl (z_lt rfl) (z_L9_T (z_L0_N6 g_1)) (z_nwm q387 rfl) dX1_offer_9 rfl rfl ?_
  refine z_aload_n (q := 13) (i := 0) (x := a0) dX1_offer_12 rfl rfl rfl ?_
  refine z_get 0 6 (q := 16) (v := .ref (a0 + 23)) rfl (z_lt rfl) (z_L0_T g_1) q512 dX1_offer_13 rfl (z_fvR (fun _ _ _ => rfl) (z_L0_P6 g_1)) ?_
  refine z_getN 9 7 (q := 19) (v := .int (h.I (a0 + 23) 7)) rfl (z_lt rfl) (z_L9_T (z_L0_N6 g_1)) (z_nwm q390 rfl) dX1_offer_16 rfl rfl ?_
  refine z_isub (q := 20) dX1_offer_19 rfl ?_
  obtain ⟨g_2, hf⟩ := hf
  refine z_iast (q := 21) (n := 4) (z_L0_A10 g_1) g_2 dX1_offer_20 rfl ?_
  refine z_aload_n (q := 22) (i := 0) (x := a0) dX1_offer_21 rfl rfl rfl ?_
  refine z_get 0 10 (q := 25) (v := .ref (a0 + 53)) rfl (z_lt rfl) (z_L0_T g_1) q516 dX1_offer_22 rfl (z_fvR (fun _ _ _ => rfl) (z_L0_P10 g_1)) ?_
  refine z_iconst (q := 26) (v := 1) dX1_offer_25 rfl rfl ?_
  refine z_aload_n (q := 27) (i := 0) (x := a0) dX1_offer_26 rfl rfl rfl ?_
  refine z_get 0 6 (q := 30) (v := .ref (a0 + 23)) rfl (z_lt rfl) (z_L0_T g_1) q512 dX1_offer_27 rfl (z_fvR (fun _ _ _ => rfl) (z_L0_P6 g_1)) ?_
  refine z_iconst (q := 31) (v := 0) dX1_offer_30 rfl rfl ?_
  refine z_aload_n (q := 32) (i := 0) (x := a0) dX1_offer_31 rfl rfl rfl ?_
  obtain ⟨b_3, g_4, hf⟩ := hf
  refine z_get 0 4 (q := 35) (v := .ref b_3) rfl (z_lt rfl) (z_L0_T g_1) q510 dX1_offer_32 rfl (z_fvR (fun _ _ _ => rfl) g_4) ?_
  obtain ⟨g_5, hf⟩ := hf
  refine z_getN 8 1 (q := 38) (v := .ref (b_3 + 3)) rfl (z_lt rfl) (z_L8_T g_5) (z_nwm q334 rfl) dX1_offer_35 rfl (z_fvR (fun _ _ _ => rfl) (z_L8_P1 g_5)) ?_
  refine z_cVi m_X11_worth [.int 0, .ref (b_3 + 3)] ((a0 + 23)) (q := 41) (rc2 := 0) (rs2 := 0) (st := [.int 1, .ref (a0 + 53)]) dX1_offer_38 rfl q1494 oV_X11_worth rfl rfl ⟨z_le rfl, z_le rfl⟩ (z_le rfl) (z_rcv_of 9 rfl (z_L9_T (z_L0_N6 g_1)) rfl) rfl  rfl hf (fun x_6 h_7 hf => ?_)
  refine z_aload_n (q := 42) (i := 0) (x := a0) dX1_offer_41 rfl rfl rfl ?_
  obtain ⟨g_8, hf⟩ := hf
  refine z_get 0 6 (q := 45) (v := .ref (a0 + 23)) rfl (z_lt rfl) (z_L0_T g_8) q512 dX1_offer_42 rfl (z_fvR (fun _ _ _ => rfl) (z_L0_P6 g_8)) ?_
  refine z_iconst (q := 46) (v := 1) dX1_offer_45 rfl rfl ?_
  refine z_aload_n (q := 47) (i := 0) (x := a0) dX1_offer_46 rfl rfl rfl ?_
  obtain ⟨b_9, g_10, hf⟩ := hf
  refine z_get 0 4 (q := 50) (v := .ref b_9) rfl (z_lt rfl) (z_L0_T g_8) q510 dX1_offer_47 rfl (z_fvR (fun _ _ _ => rfl) g_10) ?_
  obtain ⟨g_11, hf⟩ := hf
  refine z_getN 8 1 (q := 53) (v := .ref (b_9 + 3)) rfl (z_lt rfl) (z_L8_T g_11) (z_nwm q334 rfl) dX1_offer_50 rfl (z_fvR (fun _ _ _ => rfl) (z_L8_P1 g_11)) ?_
  refine z_cVi m_X11_worth [.int 1, .ref (b_9 + 3)] ((a0 + 23)) (q := 56) (rc2 := 0) (rs2 := 0) (st := [.int x_6, .int 1, .ref (a0 + 53)]) dX1_offer_53 rfl q1494 oV_X11_worth rfl rfl ⟨z_le rfl, z_le rfl⟩ (z_le rfl) (z_rcv_of 9 rfl (z_L9_T (z_L0_N6 g_8)) rfl) rfl  rfl hf (fun x_12 h_13 hf => ?_)
  refine z_isub (q := 57) dX1_offer_56 rfl ?_
  obtain ⟨n_14, g_15, hf⟩ := hf
  obtain ⟨g_16, hf⟩ := hf
  refine z_iast (q := 58) (n := n_14) g_15 g_16 dX1_offer_57 rfl ?_
  refine z_aload_n (q := 59) (i := 0) (x := a0) dX1_offer_58 rfl rfl rfl ?_
  obtain ⟨g_17, hf⟩ := hf
  refine z_get 0 10 (q := 62) (v := .ref (a0 + 53)) rfl (z_lt rfl) (z_L0_T g_17) q516 dX1_offer_59 rfl (z_fvR (fun _ _ _ => rfl) (z_L0_P10 g_17)) ?_
  refine z_iconst (q := 63) (v := 2) dX1_offer_62 rfl rfl ?_
  refine z_aload_n (q := 64) (i := 0) (x := a0) dX1_offer_63 rfl rfl rfl ?_
  refine z_get 0 6 (q := 67) (v := .ref (a0 + 23)) rfl (z_lt rfl) (z_L0_T g_17) q512 dX1_offer_64 rfl (z_fvR (fun _ _ _ => rfl) (z_L0_P6 g_17)) ?_
  refine z_getN 9 14 (q := 70) (v := .int (h_13.I (a0 + 23) 14)) rfl (z_lt rfl) (z_L9_T (z_L0_N6 g_17)) (z_nwm q408 rfl) dX1_offer_67 rfl (congrArg Value.int (z_rIa (by omega))) ?_
  obtain ⟨g_18, hf⟩ := hf
  refine z_iast (q := 71) (n := 4) (z_L0_A10 g_17) g_18 dX1_offer_70 rfl ?_
  refine z_aload_n (q := 72) (i := 0) (x := a0) dX1_offer_71 rfl rfl rfl ?_
  refine z_get 0 10 (q := 75) (v := .ref (a0 + 53)) rfl (z_lt rfl) (z_L0_T g_17) q516 dX1_offer_72 rfl (z_fvR (fun _ _ _ => rfl) (z_L0_P10 g_17)) ?_
  refine z_iconst (q := 76) (v := 3) dX1_offer_75 rfl rfl ?_
  refine z_aload_n (q := 77) (i := 0) (x := a0) dX1_offer_76 rfl rfl rfl ?_
  refine z_get 0 6 (q := 80) (v := .ref (a0 + 23)) rfl (z_lt rfl) (z_L0_T g_17) q512 dX1_offer_77 rfl (z_fvR (fun _ _ _ => rfl) (z_L0_P6 g_17)) ?_
  refine z_getN 9 13 (q := 83) (v := .int (h_13.I (a0 + 23) 13)) rfl (z_lt rfl) (z_L9_T (z_L0_N6 g_17)) (z_nwm q405 rfl) dX1_offer_80 rfl (congrArg Value.int (Eq.trans (z_rIa (by omega)) (z_rIa (by omega)))) ?_
  obtain ⟨g_19, hf⟩ := hf
  refine z_iast (q := 84) (n := 4) (z_L0_A10 g_17) g_19 dX1_offer_83 rfl ?_
  refine z_aload_n (q := 85) (i := 0) (x := a0) dX1_offer_84 rfl rfl rfl ?_
  obtain ⟨b_20, g_21, hf⟩ := hf
  refine z_get 0 4 (q := 88) (v := .ref b_20) rfl (z_lt rfl) (z_L0_T g_17) q510 dX1_offer_85 rfl (z_fvR (fun _ _ _ => rfl) g_21) ?_
  obtain ⟨g_22, hf⟩ := hf
  refine z_getN 8 6 (q := 91) (v := va_rf (h_13.P b_20 6)) rfl (z_lt rfl) (z_L8_T g_22) (z_nwm q346 rfl) dX1_offer_88 rfl rfl ?_
  rcases z_nn (h_13.P b_20 6) with hn | ⟨b_23, g_24⟩
  · have hf := hf.1 hn
    refine z_topq hn ?_
    refine z_ifnonnullN (q := 94) dX1_offer_91 rfl ?_
    refine z_bipush (q := 96) (v := 10) dX1_offer_94 (by decide) rfl ?_
    refine z_goto (q := 122) dX1_offer_96 rfl ?_
    exact z_iret dX1_offer_122 rfl hf
  · have hf := hf.2 b_23 g_24
    refine z_topq g_24 ?_
    refine z_ifnonnull (q := 99) dX1_offer_91 rfl ?_
    refine z_iconst (q := 100) (v := 0) dX1_offer_99 rfl rfl ?_
    refine z_bipush (q := 102) (v := 99) dX1_offer_100 (by decide) rfl ?_
    refine z_aload_n (q := 103) (i := 0) (x := a0) dX1_offer_102 rfl rfl rfl ?_
    obtain ⟨b_25, g_26, hf⟩ := hf
    refine z_get 0 4 (q := 106) (v := .ref b_25) rfl (z_lt rfl) (z_L0_T g_17) q510 dX1_offer_103 rfl (z_fvR (fun _ _ _ => rfl) g_26) ?_
    obtain ⟨g_27, hf⟩ := hf
    obtain ⟨b_28, g_29, hf⟩ := hf
    refine z_getN 8 6 (q := 109) (v := .ref b_28) rfl (z_lt rfl) (z_L8_T g_27) (z_nwm q346 rfl) dX1_offer_106 rfl (z_fvR (fun _ _ _ => rfl) g_29) ?_
    refine z_aload_n (q := 110) (i := 0) (x := a0) dX1_offer_109 rfl rfl rfl ?_
    refine z_get 0 10 (q := 113) (v := .ref (a0 + 53)) rfl (z_lt rfl) (z_L0_T g_17) q516 dX1_offer_110 rfl (z_fvR (fun _ _ _ => rfl) (z_L0_P10 g_17)) ?_
    refine z_iworked_call (d := 1010) (q := 116) (st := [.int 99, .int 0]) dX1_offer_113 rfl q1531 hf rfl rfl (z_le rfl) (z_le rfl) (z_le rfl) (fun x_31 h_30 hf => ?_)
    refine z_cSi m_J5_min [.int 99, .int x_31] (q := 119) (rc2 := 0) (rs2 := 0) (st := [.int 0]) dX1_offer_116 rfl q1548 oS_J5_min rfl rfl ⟨z_le rfl, z_le rfl⟩ (z_le rfl) rfl  rfl hf (fun x_32 h_33 hf => ?_)
    refine z_cSi m_J5_max [.int 0, .int x_32] (q := 122) (rc2 := 0) (rs2 := 0) (st := []) dX1_offer_119 rfl q1549 oS_J5_max rfl rfl ⟨z_le rfl, z_le rfl⟩ (z_le rfl) rfl  rfl hf (fun x_34 h_35 hf => ?_)
    exact z_iret dX1_offer_122 rfl hf

theorem u_X1_opening {l : Launch} {G : z_G} {a0 : Nat} {x1 : Int32} {h : z_H} {Q : z_Q} (hst : l.stackTraces = false)  (hf : z_Ct l G m_X1_in [.int x1, .int 0, .int 3] h (z_Qi (fun x_1 h_2 => (x_1 = 0 → Q (some (.int (-1))) h_2) ∧ (¬ x_1 = 0 → z_V l G m_X1_opening (z_Fm G m_X1_opening Q) 0 0 h_2 15 [some (.ref a0), some (.int x1), some (.int 0), some (.int 0), none] [])))) : z_Ct l G m_X1_opening [.ref a0, .int x1] h Q := by
  refine z_Ct.of (ls := [some (.ref a0), some (.int x1), none, none, none]) hst rfl (by decide +kernel) (z_le rfl) rfl ?_
  show z_V l G m_X1_opening (z_Fm G m_X1_opening Q) 0 0 h 0 [some (.ref a0), some (.int x1), none, none, none] []
  refine z_iload_n (q := 1) (i := 1) (x := x1) dX1_opening_0 rfl rfl rfl ?_
  refine z_iconst (q := 2) (v := 0) dX1_opening_1 rfl rfl ?_
  refine z_iconst (q := 3) (v := 3) dX1_opening_2 rfl rfl ?_
  refine z_cSi m_X1_in [.int x1, .int 0, .int 3] (q := 6) (rc2 := 0) (rs2 := 0) (st := []) dX1_opening_3 rfl q1259 oS_X1_in rfl rfl ⟨z_le rfl, z_le rfl⟩ (z_le rfl) rfl  rfl hf (fun x_1 h_2 hf => ?_)
  refine z_if_ne (q := 9) (tgt := 11) dX1_opening_6 rfl rfl (fun hc => ?_) (fun hc => ?_)
  · have hf := hf.2 hc
    refine z_iconst (q := 12) (v := 0) dX1_opening_11 rfl rfl ?_
    refine z_istore_n (q := 13) (i := 2) (ls2 := [some (.ref a0), some (.int x1), some (.int 0), none, none]) (x := 0) dX1_opening_12 rfl (z_lt rfl) rfl rfl ?_
    refine z_iconst (q := 14) (v := 0) dX1_opening_13 rfl rfl ?_
    refine z_istore_n (q := 15) (i := 3) (ls2 := [some (.ref a0), some (.int x1), some (.int 0), some (.int 0), none]) (x := 0) dX1_opening_14 rfl (z_lt rfl) rfl rfl ?_
    exact hf
  · have hf := hf.1 hc
    refine z_iconst (q := 10) (v := (-1)) dX1_opening_9 rfl rfl ?_
    exact z_iret dX1_opening_10 rfl hf

theorem b_X1_opening_15 {l : Launch} {G : z_G} {a0 : Nat} {x1 : Int32} {x2 : Int32} {x3 : Int32} {h : z_H} {Q : z_Q}  (hf : z_L0 h a0 ∧ ∃ b_2, (h.P a0 5) = some b_2 ∧ (h.T b_2).1 = 31 ∧ z_Ct l G m_J2_size [.ref b_2] h (z_Qi (fun x_5 h_6 => (x_5 ≤ x3 → Q (some (.int x2)) h_6) ∧ (¬ x_5 ≤ x3 → z_L0 h_6 a0 ∧ ∃ b_8, (h_6.P a0 5) = some b_8 ∧ (h_6.T b_8).1 = 31 ∧ z_Ct l G m_J2_get [.ref b_8, .int x3] h_6 (z_Qr (fun b_11 h_12 => z_L17 h_12 b_11 ∧ z_L0 h_12 a0 ∧ z_Ct l G m_X1_begins_2 [.ref (b_11 + 1), .ref (a0 + 49)] h_12 (z_Qi (fun x_15 h_16 => (x_15 = 0 → z_V l G m_X1_opening (z_Fm G m_X1_opening Q) 0 0 h_16 15 [some (.ref a0), some (.int x1), some (.int x2), some (.int (x3 + 1)), none] []) ∧ (¬ x_15 = 0 → z_L17 h_16 b_11 ∧ z_L0 h_16 a0 ∧ z_Ct l G m_X1_begins_2 [.ref (b_11 + 3), .ref (a0 + 51)] h_16 (z_Qi (fun x_19 h_20 => (x_19 = 0 → z_V l G m_X1_opening (z_Fm G m_X1_opening Q) 0 0 h_20 15 [some (.ref a0), some (.int x1), some (.int x2), some (.int (x3 + 1)), none] []) ∧ (¬ x_19 = 0 → (x1 = 0 → z_V l G m_X1_opening (z_Fm G m_X1_opening Q) 0 0 h_20 15 [some (.ref a0), some (.int x1), some (.int (x2 + 1)), some (.int (x3 + 1)), none] []) ∧ (¬ x1 = 0 → z_L17 h_20 b_11 ∧ ((h_20.I b_11 2) = (x1 - 1) → z_V l G m_X1_opening (z_Fm G m_X1_opening Q) 0 0 h_20 15 [some (.ref a0), some (.int x1), some (.int (x2 + 1)), some (.int (x3 + 1)), none] []) ∧ (¬ (h_20.I b_11 2) = (x1 - 1) → z_V l G m_X1_opening (z_Fm G m_X1_opening Q) 0 0 h_20 15 [some (.ref a0), some (.int x1), some (.int x2), some (.int (x3 + 1)), none] [])))))))))))))) : z_V l G m_X1_opening (z_Fm G m_X1_opening Q) 0 0 h 15 [some (.ref a0), some (.int x1), some (.int x2), some (.int x3), none] [] := by
  refine z_iload_n (q := 16) (i := 3) (x := x3) dX1_opening_15 rfl rfl rfl ?_
  refine z_aload_n (q := 17) (i := 0) (x := a0) dX1_opening_16 rfl rfl rfl ?_
  obtain ⟨g_1, hf⟩ := hf
  obtain ⟨b_2, g_3, hf⟩ := hf
  refine z_get 0 5 (q := 20) (v := .ref b_2) rfl (z_lt rfl) (z_L0_T g_1) q511 dX1_opening_17 rfl (z_fvR (fun _ _ _ => rfl) g_3) ?_
  obtain ⟨g_4, hf⟩ := hf
  refine z_cVi m_J2_size [] (b_2) (q := 23) (rc2 := 0) (rs2 := 0) (st := [.int x3]) dX1_opening_20 rfl q1258 oV_J2_size rfl rfl ⟨z_le rfl, z_le rfl⟩ (z_le rfl) (z_rcv_of 21 rfl g_4 rfl) rfl  rfl hf (fun x_5 h_6 hf => ?_)
  refine z_icmp_ge (q := 26) (tgt := 93) dX1_opening_23 rfl rfl (fun hc => ?_) (fun hc => ?_)
  · have hf := hf.1 hc
    refine z_iload_n (q := 94) (i := 2) (x := x2) dX1_opening_93 rfl rfl rfl ?_
    exact z_iret dX1_opening_94 rfl hf
  · have hf := hf.2 hc
    refine z_aload_n (q := 27) (i := 0) (x := a0) dX1_opening_26 rfl rfl rfl ?_
    obtain ⟨g_7, hf⟩ := hf
    obtain ⟨b_8, g_9, hf⟩ := hf
    refine z_get 0 5 (q := 30) (v := .ref b_8) rfl (z_lt rfl) (z_L0_T g_7) q511 dX1_opening_27 rfl (z_fvR (fun _ _ _ => rfl) g_9) ?_
    refine z_iload_n (q := 31) (i := 3) (x := x3) dX1_opening_30 rfl rfl rfl ?_
    obtain ⟨g_10, hf⟩ := hf
    refine z_cVr m_J2_get [.int x3] (b_8) (q := 34) (rc2 := 0) (rs2 := 0) (st := []) dX1_opening_31 rfl q1285 oV_J2_get rfl rfl ⟨z_le rfl, z_le rfl⟩ (z_le rfl) (z_rcv_of 21 rfl g_10 rfl) rfl  rfl hf (fun b_11 h_12 hf => ?_)
    obtain ⟨g_13, hf⟩ := hf
    refine z_cast (C0 := "BeggarHeaps$Opening") (nm := "BeggarHeaps$Opening") (z_rcv_of 17 rfl (z_L17_T g_13) rfl) (Or.inl rfl) q1605 dX1_opening_34 rfl ?_
    refine z_astore (q := 39) (i := 4) (ls2 := [some (.ref a0), some (.int x1), some (.int x2), some (.int x3), some (.ref b_11)]) (x := b_11) dX1_opening_37 (z_lt rfl) rfl rfl ?_
    refine z_aload (q := 41) (i := 4) (x := b_11) dX1_opening_39 rfl rfl ?_
    refine z_getN 17 0 (q := 44) (v := .ref (b_11 + 1)) rfl (z_lt rfl) (z_L17_T g_13) (z_nwm q1228 rfl) dX1_opening_41 rfl (z_fvR (fun _ _ _ => rfl) (z_L17_P0 g_13)) ?_
    refine z_aload_n (q := 45) (i := 0) (x := a0) dX1_opening_44 rfl rfl rfl ?_
    obtain ⟨g_14, hf⟩ := hf
    refine z_get 0 8 (q := 48) (v := .ref (a0 + 49)) rfl (z_lt rfl) (z_L0_T g_14) q514 dX1_opening_45 rfl (z_fvR (fun _ _ _ => rfl) (z_L0_P8 g_14)) ?_
    refine z_cSi m_X1_begins_2 [.ref (b_11 + 1), .ref (a0 + 49)] (q := 51) (rc2 := 0) (rs2 := 0) (st := []) dX1_opening_48 rfl q1606 oS_X1_begins_2 rfl rfl ⟨z_le rfl, z_le rfl⟩ (z_le rfl) rfl  rfl hf (fun x_15 h_16 hf => ?_)
    refine z_if_eq (q := 54) (tgt := 87) dX1_opening_51 rfl rfl (fun hc => ?_) (fun hc => ?_)
    · have hf := hf.1 hc
      refine z_iinc (q := 90) (i := 3) (x := x3) (v := (x3 + 1)) (ls2 := [some (.ref a0), some (.int x1), some (.int x2), some (.int (x3 + 1)), some (.ref b_11)]) dX1_opening_87 rfl rfl (z_lt rfl) rfl rfl ?_
      refine z_goto (q := 15) dX1_opening_90 rfl ?_
      refine z_prune [true, true, true, true, false] (ls2 := [some (.ref a0), some (.int x1), some (.int x2), some (.int (x3 + 1)), none]) rfl ?_
      exact hf
    · have hf := hf.2 hc
      refine z_aload (q := 56) (i := 4) (x := b_11) dX1_opening_54 rfl rfl ?_
      obtain ⟨g_17, hf⟩ := hf
      refine z_getN 17 1 (q := 59) (v := .ref (b_11 + 3)) rfl (z_lt rfl) (z_L17_T g_17) (z_nwm q1231 rfl) dX1_opening_56 rfl (z_fvR (fun _ _ _ => rfl) (z_L17_P1 g_17)) ?_
      refine z_aload_n (q := 60) (i := 0) (x := a0) dX1_opening_59 rfl rfl rfl ?_
      obtain ⟨g_18, hf⟩ := hf
      refine z_get 0 9 (q := 63) (v := .ref (a0 + 51)) rfl (z_lt rfl) (z_L0_T g_18) q515 dX1_opening_60 rfl (z_fvR (fun _ _ _ => rfl) (z_L0_P9 g_18)) ?_
      refine z_cSi m_X1_begins_2 [.ref (b_11 + 3), .ref (a0 + 51)] (q := 66) (rc2 := 0) (rs2 := 0) (st := []) dX1_opening_63 rfl q1606 oS_X1_begins_2 rfl rfl ⟨z_le rfl, z_le rfl⟩ (z_le rfl) rfl  rfl hf (fun x_19 h_20 hf => ?_)
      refine z_if_eq (q := 69) (tgt := 87) dX1_opening_66 rfl rfl (fun hc => ?_) (fun hc => ?_)
      · have hf := hf.1 hc
        refine z_iinc (q := 90) (i := 3) (x := x3) (v := (x3 + 1)) (ls2 := [some (.ref a0), some (.int x1), some (.int x2), some (.int (x3 + 1)), some (.ref b_11)]) dX1_opening_87 rfl rfl (z_lt rfl) rfl rfl ?_
        refine z_goto (q := 15) dX1_opening_90 rfl ?_
        refine z_prune [true, true, true, true, false] (ls2 := [some (.ref a0), some (.int x1), some (.int x2), some (.int (x3 + 1)), none]) rfl ?_
        exact hf
      · have hf := hf.2 hc
        refine z_iload_n (q := 70) (i := 1) (x := x1) dX1_opening_69 rfl rfl rfl ?_
        refine z_if_eq (q := 73) (tgt := 84) dX1_opening_70 rfl rfl (fun hc => ?_) (fun hc => ?_)
        · have hf := hf.1 hc
          refine z_iinc (q := 87) (i := 2) (x := x2) (v := (x2 + 1)) (ls2 := [some (.ref a0), some (.int x1), some (.int (x2 + 1)), some (.int x3), some (.ref b_11)]) dX1_opening_84 rfl rfl (z_lt rfl) rfl rfl ?_
          refine z_iinc (q := 90) (i := 3) (x := x3) (v := (x3 + 1)) (ls2 := [some (.ref a0), some (.int x1), some (.int (x2 + 1)), some (.int (x3 + 1)), some (.ref b_11)]) dX1_opening_87 rfl rfl (z_lt rfl) rfl rfl ?_
          refine z_goto (q := 15) dX1_opening_90 rfl ?_
          refine z_prune [true, true, true, true, false] (ls2 := [some (.ref a0), some (.int x1), some (.int (x2 + 1)), some (.int (x3 + 1)), none]) rfl ?_
          exact hf
        · have hf := hf.2 hc
          refine z_aload (q := 75) (i := 4) (x := b_11) dX1_opening_73 rfl rfl ?_
          obtain ⟨g_21, hf⟩ := hf
          refine z_getN 17 2 (q := 78) (v := .int (h_20.I b_11 2)) rfl (z_lt rfl) (z_L17_T g_21) (z_nwm q1233 rfl) dX1_opening_75 rfl rfl ?_
          refine z_iload_n (q := 79) (i := 1) (x := x1) dX1_opening_78 rfl rfl rfl ?_
          refine z_iconst (q := 80) (v := 1) dX1_opening_79 rfl rfl ?_
          refine z_isub (q := 81) dX1_opening_80 rfl ?_
          refine z_icmp_ne (q := 84) (tgt := 87) dX1_opening_81 rfl rfl (fun hc => ?_) (fun hc => ?_)
          · have hf := hf.2 hc
            refine z_iinc (q := 90) (i := 3) (x := x3) (v := (x3 + 1)) (ls2 := [some (.ref a0), some (.int x1), some (.int x2), some (.int (x3 + 1)), some (.ref b_11)]) dX1_opening_87 rfl rfl (z_lt rfl) rfl rfl ?_
            refine z_goto (q := 15) dX1_opening_90 rfl ?_
            refine z_prune [true, true, true, true, false] (ls2 := [some (.ref a0), some (.int x1), some (.int x2), some (.int (x3 + 1)), none]) rfl ?_
            exact hf
          · have hf := hf.1 hc
            refine z_iinc (q := 87) (i := 2) (x := x2) (v := (x2 + 1)) (ls2 := [some (.ref a0), some (.int x1), some (.int (x2 + 1)), some (.int x3), some (.ref b_11)]) dX1_opening_84 rfl rfl (z_lt rfl) rfl rfl ?_
            refine z_iinc (q := 90) (i := 3) (x := x3) (v := (x3 + 1)) (ls2 := [some (.ref a0), some (.int x1), some (.int (x2 + 1)), some (.int (x3 + 1)), some (.ref b_11)]) dX1_opening_87 rfl rfl (z_lt rfl) rfl rfl ?_
            refine z_goto (q := 15) dX1_opening_90 rfl ?_
            refine z_prune [true, true, true, true, false] (ls2 := [some (.ref a0), some (.int x1), some (.int (x2 + 1)), some (.int (x3 + 1)), none]) rfl ?_
            exact hf

theorem u_X1_orders {l : Launch} {G : z_G} {a0 : Nat} {h : z_H} {Q : z_Q} {X : z_QX} (hst : l.stackTraces = false)  (hf : z_L0 h a0 ∧ z_Cz l G m_X1_need [.int (if (h.I (a0 + 23) 21) ≤ 0 then 0 else 1)] h (z_Qv (fun h_2 => z_V l G m_X1_orders (z_Fx G m_X1_orders Q X) 0 2 (h_2.nw (1, 48)) 27 [some (.ref a0), some (.int 0), some (.ref (h_2.n)), some (.int 0), none, none] [])) X) : z_Cz l G m_X1_orders [.ref a0] h Q X := by
  refine z_Cz.of (ls := [some (.ref a0), none, none, none, none, none]) hst rfl (by decide +kernel) (z_le rfl) rfl ?_
  show z_V l G m_X1_orders (z_Fx G m_X1_orders Q X) 8 80 h 0 [some (.ref a0), none, none, none, none, none] []
  refine z_aload_n (q := 1) (i := 0) (x := a0) dX1_orders_0 rfl rfl rfl ?_
  obtain ⟨g_1, hf⟩ := hf
  refine z_get 0 6 (q := 4) (v := .ref (a0 + 23)) rfl (z_lt rfl) (z_L0_T g_1) q512 dX1_orders_1 rfl (z_fvR (fun _ _ _ => rfl) (z_L0_P6 g_1)) ?_
  refine z_getN 9 21 (q := 7) (v := .int (h.I (a0 + 23) 21)) rfl (z_lt rfl) (z_L9_T (z_L0_N6 g_1)) (z_nwm q422 rfl) dX1_orders_4 rfl rfl ?_
  have hk : z_V l G m_X1_orders (z_Fx G m_X1_orders Q X) 8 80 h 15 [some (.ref a0), none, none, none, none, none] [.int (if (h.I (a0 + 23) 21) ≤ 0 then 0 else 1)] := by
    refine z_cSXv m_X1_need [.int (if (h.I (a0 + 23) 21) ≤ 0 then 0 else 1)] (q := 18) (rc2 := 1) (rs2 := 50) (st := []) dX1_orders_15 rfl q1683 oS_X1_need rfl rfl ⟨z_le rfl, z_le rfl⟩ (z_le rfl) rfl  rfl hf (fun C0 x h1 hX => z_out rfl hX) (fun h_2 hf => ?_)
    refine z_iconst (q := 19) (v := 0) dX1_orders_18 rfl rfl ?_
    refine z_istore_n (q := 20) (i := 1) (ls2 := [some (.ref a0), some (.int 0), none, none, none, none]) (x := 0) dX1_orders_19 rfl (z_lt rfl) rfl rfl ?_
    refine z_bipush (q := 22) (v := 48) dX1_orders_20 (by decide) rfl ?_
    refine z_newa 1 (q := 24) (N := 48) (rc2 := 0) (rs2 := 2) (z_lt rfl) (z_lt rfl) rfl q295 (by decide) rfl (z_le rfl) dX1_orders_22 rfl rfl rfl ?_
    refine z_astore_n (q := 25) (i := 2) (ls2 := [some (.ref a0), some (.int 0), some (.ref (h_2.n)), none, none, none]) (x := (h_2.n)) dX1_orders_24 rfl (z_lt rfl) rfl rfl ?_
    refine z_iconst (q := 26) (v := 0) dX1_orders_25 rfl rfl ?_
    refine z_istore_n (q := 27) (i := 3) (ls2 := [some (.ref a0), some (.int 0), some (.ref (h_2.n)), some (.int 0), none, none]) (x := 0) dX1_orders_26 rfl (z_lt rfl) rfl rfl ?_
    exact hf
  refine z_if_le (q := 10) (tgt := 14) dX1_orders_7 rfl rfl (fun hc => ?_) (fun hc => ?_)
  · have hk := (z_ite hk).1 hc
    refine z_iconst (q := 15) (v := 0) dX1_orders_14 rfl rfl ?_
    exact hk
  · have hk := (z_ite hk).2 hc
    refine z_iconst (q := 11) (v := 1) dX1_orders_10 rfl rfl ?_
    refine z_goto (q := 15) dX1_orders_11 rfl ?_
    exact hk

theorem b_X1_orders_27 {l : Launch} {G : z_G} {rc rs : Nat} {a0 : Nat} {x1 : Int32} {a2 : Nat} {x3 : Int32} {h : z_H} {Q : z_Q} {X : z_QX}  (hf : (5 ≤ x3 → Q (some (.int x1)) h) ∧ (¬ 5 ≤ x3 → z_L0 h a0 ∧ vp_in x3 5 ∧ ∃ b_3, (h.P (a0 + 3) (Int32.toNatClampNeg x3)) = some b_3 ∧ ∃ b_5, (h.P a0 4) = some b_5 ∧ z_L8 h b_5 ∧ z_ilays l G [.ref b_3, .ref (a0 + 34), .int (h.I (a0 + 23) 21), .ref (b_5 + 3), .ref a2] h (z_Qv (fun h_8 => z_V l G m_X1_orders (z_Fx G m_X1_orders Q X) rc rs h_8 69 [some (.ref a0), some (.int x1), some (.ref a2), some (.int x3), some (.int 1), some (.int 0)] [])))) : z_V l G m_X1_orders (z_Fx G m_X1_orders Q X) rc rs h 27 [some (.ref a0), some (.int x1), some (.ref a2), some (.int x3), none, none] [] := by
  refine z_iload_n (q := 28) (i := 3) (x := x3) dX1_orders_27 rfl rfl rfl ?_
  refine z_iconst (q := 29) (v := 5) dX1_orders_28 rfl rfl ?_
  refine z_icmp_ge (q := 32) (tgt := 133) dX1_orders_29 rfl rfl (fun hc => ?_) (fun hc => ?_)
  · have hf := hf.1 hc
    refine z_iload_n (q := 134) (i := 1) (x := x1) dX1_orders_133 rfl rfl rfl ?_
    exact (z_iret dX1_orders_134 rfl hf).x
  · have hf := hf.2 hc
    refine z_aload_n (q := 33) (i := 0) (x := a0) dX1_orders_32 rfl rfl rfl ?_
    obtain ⟨g_1, hf⟩ := hf
    refine z_get 0 2 (q := 36) (v := .ref (a0 + 3)) rfl (z_lt rfl) (z_L0_T g_1) q507 dX1_orders_33 rfl (z_fvR (fun _ _ _ => rfl) (z_L0_P2 g_1)) ?_
    refine z_iload_n (q := 37) (i := 3) (x := x3) dX1_orders_36 rfl rfl rfl ?_
    obtain ⟨g_2, hf⟩ := hf
    obtain ⟨b_3, g_4, hf⟩ := hf
    refine z_aald (q := 38) (n := 5) (v := .ref b_3) (z_L0_A2 g_1) (by decide) g_2 dX1_orders_37 rfl (z_rfR g_4) ?_
    refine z_aload_n (q := 39) (i := 0) (x := a0) dX1_orders_38 rfl rfl rfl ?_
    refine z_get 0 6 (q := 42) (v := .ref (a0 + 23)) rfl (z_lt rfl) (z_L0_T g_1) q512 dX1_orders_39 rfl (z_fvR (fun _ _ _ => rfl) (z_L0_P6 g_1)) ?_
    refine z_getN 9 19 (q := 45) (v := .ref (a0 + 34)) rfl (z_lt rfl) (z_L9_T (z_L0_N6 g_1)) (z_nwm q418 rfl) dX1_orders_42 rfl (z_fvR (fun _ _ _ => rfl) (z_L9_P19 (z_L0_N6 g_1))) ?_
    refine z_aload_n (q := 46) (i := 0) (x := a0) dX1_orders_45 rfl rfl rfl ?_
    refine z_get 0 6 (q := 49) (v := .ref (a0 + 23)) rfl (z_lt rfl) (z_L0_T g_1) q512 dX1_orders_46 rfl (z_fvR (fun _ _ _ => rfl) (z_L0_P6 g_1)) ?_
    refine z_getN 9 21 (q := 52) (v := .int (h.I (a0 + 23) 21)) rfl (z_lt rfl) (z_L9_T (z_L0_N6 g_1)) (z_nwm q422 rfl) dX1_orders_49 rfl rfl ?_
    refine z_aload_n (q := 53) (i := 0) (x := a0) dX1_orders_52 rfl rfl rfl ?_
    obtain ⟨b_5, g_6, hf⟩ := hf
    refine z_get 0 4 (q := 56) (v := .ref b_5) rfl (z_lt rfl) (z_L0_T g_1) q510 dX1_orders_53 rfl (z_fvR (fun _ _ _ => rfl) g_6) ?_
    obtain ⟨g_7, hf⟩ := hf
    refine z_getN 8 1 (q := 59) (v := .ref (b_5 + 3)) rfl (z_lt rfl) (z_L8_T g_7) (z_nwm q334 rfl) dX1_orders_56 rfl (z_fvR (fun _ _ _ => rfl) (z_L8_P1 g_7)) ?_
    refine z_aload_n (q := 60) (i := 2) (x := a2) dX1_orders_59 rfl rfl rfl ?_
    refine z_ilays_call (q := 63) (st := []) dX1_orders_60 rfl q1707 hf rfl rfl (z_le rfl) (z_le rfl) (z_le rfl) (fun h_8 hf => ?_)
    refine z_iconst (q := 64) (v := 1) dX1_orders_63 rfl rfl ?_
    refine z_istore (q := 66) (i := 4) (ls2 := [some (.ref a0), some (.int x1), some (.ref a2), some (.int x3), some (.int 1), none]) (x := 1) dX1_orders_64 (z_lt rfl) rfl rfl ?_
    refine z_iconst (q := 67) (v := 0) dX1_orders_66 rfl rfl ?_
    refine z_istore (q := 69) (i := 5) (ls2 := [some (.ref a0), some (.int x1), some (.ref a2), some (.int x3), some (.int 1), some (.int 0)]) (x := 0) dX1_orders_67 (z_lt rfl) rfl rfl ?_
    exact hf

theorem b_X1_orders_69 {l : Launch} {G : z_G} {rc rs : Nat} {a0 : Nat} {x1 : Int32} {a2 : Nat} {x3 : Int32} {x4 : Int32} {x5 : Int32} {h : z_H} {Q : z_Q} {X : z_QX}  (hf : z_L0 h a0 ∧ ((h.I (a0 + 23) 22) ≤ x5 → (x4 = 0 → z_V l G m_X1_orders (z_Fx G m_X1_orders Q X) rc rs h 27 [some (.ref a0), some (.int x1), some (.ref a2), some (.int (x3 + 1)), none, none] []) ∧ (¬ x4 = 0 → ∀ v_2 : Int32, v_2 = (x1 ||| (1 <<< (x3 &&& 31))) → z_V l G m_X1_orders (z_Fx G m_X1_orders Q X) rc rs h 27 [some (.ref a0), some (.int v_2), some (.ref a2), some (.int (x3 + 1)), none, none] [])) ∧ (¬ (h.I (a0 + 23) 22) ≤ x5 → (x4 = 0 → z_V l G m_X1_orders (z_Fx G m_X1_orders Q X) rc rs h 69 [some (.ref a0), some (.int x1), some (.ref a2), some (.int x3), some (.int 0), some (.int (x5 + 1))] []) ∧ (¬ x4 = 0 → ∃ n_7, h.T a2 = (1, n_7) ∧ vp_in x5 n_7 ∧ vp_in x5 12 ∧ ∀ v_11 : Int32, v_11 = (if (h.I a2 (Int32.toNatClampNeg x5)) = (h.I (a0 + 35) (Int32.toNatClampNeg x5)) then 1 else 0) → z_V l G m_X1_orders (z_Fx G m_X1_orders Q X) rc rs h 69 [some (.ref a0), some (.int x1), some (.ref a2), some (.int x3), some (.int v_11), some (.int (x5 + 1))] []))) : z_V l G m_X1_orders (z_Fx G m_X1_orders Q X) rc rs h 69 [some (.ref a0), some (.int x1), some (.ref a2), some (.int x3), some (.int x4), some (.int x5)] [] := by
  refine z_iload (q := 71) (i := 5) (x := x5) dX1_orders_69 rfl rfl ?_
  refine z_aload_n (q := 72) (i := 0) (x := a0) dX1_orders_71 rfl rfl rfl ?_
  obtain ⟨g_1, hf⟩ := hf
  refine z_get 0 6 (q := 75) (v := .ref (a0 + 23)) rfl (z_lt rfl) (z_L0_T g_1) q512 dX1_orders_72 rfl (z_fvR (fun _ _ _ => rfl) (z_L0_P6 g_1)) ?_
  refine z_getN 9 22 (q := 78) (v := .int (h.I (a0 + 23) 22)) rfl (z_lt rfl) (z_L9_T (z_L0_N6 g_1)) (z_nwm q424 rfl) dX1_orders_75 rfl rfl ?_
  refine z_icmp_ge (q := 81) (tgt := 116) dX1_orders_78 rfl rfl (fun hc => ?_) (fun hc => ?_)
  · have hf := hf.1 hc
    refine z_iload (q := 118) (i := 4) (x := x4) dX1_orders_116 rfl rfl ?_
    refine z_if_eq (q := 121) (tgt := 127) dX1_orders_118 rfl rfl (fun hc => ?_) (fun hc => ?_)
    · have hf := hf.1 hc
      refine z_iinc (q := 130) (i := 3) (x := x3) (v := (x3 + 1)) (ls2 := [some (.ref a0), some (.int x1), some (.ref a2), some (.int (x3 + 1)), some (.int x4), some (.int x5)]) dX1_orders_127 rfl rfl (z_lt rfl) rfl rfl ?_
      refine z_goto (q := 27) dX1_orders_130 rfl ?_
      refine z_prune [true, true, true, true, false, false] (ls2 := [some (.ref a0), some (.int x1), some (.ref a2), some (.int (x3 + 1)), none, none]) rfl ?_
      exact hf
    · have hf := hf.2 hc
      refine z_iload_n (q := 122) (i := 1) (x := x1) dX1_orders_121 rfl rfl rfl ?_
      refine z_iconst (q := 123) (v := 1) dX1_orders_122 rfl rfl ?_
      refine z_iload_n (q := 124) (i := 3) (x := x3) dX1_orders_123 rfl rfl rfl ?_
      refine z_ishl (q := 125) dX1_orders_124 rfl ?_
      refine z_ior (q := 126) dX1_orders_125 rfl ?_
      refine z_nmI (fun v_2 hv_3 => ?_)
      have hf := hf v_2 hv_3
      refine z_istore_n (q := 127) (i := 1) (ls2 := [some (.ref a0), some (.int v_2), some (.ref a2), some (.int x3), some (.int x4), some (.int x5)]) (x := v_2) dX1_orders_126 rfl (z_lt rfl) rfl rfl ?_
      refine z_iinc (q := 130) (i := 3) (x := x3) (v := (x3 + 1)) (ls2 := [some (.ref a0), some (.int v_2), some (.ref a2), some (.int (x3 + 1)), some (.int x4), some (.int x5)]) dX1_orders_127 rfl rfl (z_lt rfl) rfl rfl ?_
      refine z_goto (q := 27) dX1_orders_130 rfl ?_
      refine z_prune [true, true, true, true, false, false] (ls2 := [some (.ref a0), some (.int v_2), some (.ref a2), some (.int (x3 + 1)), none, none]) rfl ?_
      exact hf
  · have hf := hf.2 hc
    refine z_iload (q := 83) (i := 4) (x := x4) dX1_orders_81 rfl rfl ?_
    refine z_if_eq (q := 86) (tgt := 107) dX1_orders_83 rfl rfl (fun hc => ?_) (fun hc => ?_)
    · have hf := hf.1 hc
      refine z_iconst (q := 108) (v := 0) dX1_orders_107 rfl rfl ?_
      refine z_istore (q := 110) (i := 4) (ls2 := [some (.ref a0), some (.int x1), some (.ref a2), some (.int x3), some (.int 0), some (.int x5)]) (x := 0) dX1_orders_108 (z_lt rfl) rfl rfl ?_
      refine z_iinc (q := 113) (i := 5) (x := x5) (v := (x5 + 1)) (ls2 := [some (.ref a0), some (.int x1), some (.ref a2), some (.int x3), some (.int 0), some (.int (x5 + 1))]) dX1_orders_110 rfl rfl (z_lt rfl) rfl rfl ?_
      refine z_goto (q := 69) dX1_orders_113 rfl ?_
      exact hf
    · have hf := hf.2 hc
      refine z_aload_n (q := 87) (i := 2) (x := a2) dX1_orders_86 rfl rfl rfl ?_
      refine z_iload (q := 89) (i := 5) (x := x5) dX1_orders_87 rfl rfl ?_
      obtain ⟨n_7, g_8, hf⟩ := hf
      obtain ⟨g_9, hf⟩ := hf
      refine z_iald (q := 90) (n := n_7) g_8 g_9 dX1_orders_89 rfl ?_
      refine z_aload_n (q := 91) (i := 0) (x := a0) dX1_orders_90 rfl rfl rfl ?_
      refine z_get 0 6 (q := 94) (v := .ref (a0 + 23)) rfl (z_lt rfl) (z_L0_T g_1) q512 dX1_orders_91 rfl (z_fvR (fun _ _ _ => rfl) (z_L0_P6 g_1)) ?_
      refine z_getN 9 20 (q := 97) (v := .ref (a0 + 35)) rfl (z_lt rfl) (z_L9_T (z_L0_N6 g_1)) (z_nwm q420 rfl) dX1_orders_94 rfl (z_fvR (fun _ _ _ => rfl) (z_L9_P20 (z_L0_N6 g_1))) ?_
      refine z_iload (q := 99) (i := 5) (x := x5) dX1_orders_97 rfl rfl ?_
      obtain ⟨g_10, hf⟩ := hf
      refine z_iald (q := 100) (n := 12) (z_L9_A20 (z_L0_N6 g_1)) g_10 dX1_orders_99 rfl ?_
      have hk : z_V l G m_X1_orders (z_Fx G m_X1_orders Q X) rc rs h 108 [some (.ref a0), some (.int x1), some (.ref a2), some (.int x3), some (.int x4), some (.int x5)] [.int (if (h.I a2 (Int32.toNatClampNeg x5)) = (h.I (a0 + 35) (Int32.toNatClampNeg x5)) then 1 else 0)] := by
        refine z_nmI (fun v_11 hv_12 => ?_)
        have hf := hf v_11 hv_12
        refine z_istore (q := 110) (i := 4) (ls2 := [some (.ref a0), some (.int x1), some (.ref a2), some (.int x3), some (.int v_11), some (.int x5)]) (x := v_11) dX1_orders_108 (z_lt rfl) rfl rfl ?_
        refine z_iinc (q := 113) (i := 5) (x := x5) (v := (x5 + 1)) (ls2 := [some (.ref a0), some (.int x1), some (.ref a2), some (.int x3), some (.int v_11), some (.int (x5 + 1))]) dX1_orders_110 rfl rfl (z_lt rfl) rfl rfl ?_
        refine z_goto (q := 69) dX1_orders_113 rfl ?_
        exact hf
      refine z_icmp_ne (q := 103) (tgt := 107) dX1_orders_100 rfl rfl (fun hc => ?_) (fun hc => ?_)
      · have hk := (z_ite hk).2 hc
        refine z_iconst (q := 108) (v := 0) dX1_orders_107 rfl rfl ?_
        exact hk
      · have hk := (z_ite hk).1 hc
        refine z_iconst (q := 104) (v := 1) dX1_orders_103 rfl rfl ?_
        refine z_goto (q := 108) dX1_orders_104 rfl ?_
        exact hk

theorem u_X1_plays {l : Launch} {G : z_G} {a0 : Nat} {x1 : Int32} {a2 : Nat} {h : z_H} {Q : z_Q} (hst : l.stackTraces = false)  (hf : z_L0 h a0 ∧ z_Ct l G m_X1_deals_2 [.ref a0, .int x1] h (z_Qv (fun h_2 => z_L0 h_2 a0 ∧ ∃ b_4, (h_2.P a0 4) = some b_4 ∧ z_L8 h_2 b_4 ∧ z_Ct l G m_X10_limit [.ref b_4] h_2 (z_Qi (fun x_7 h_8 => z_L7 h_8 (a0 + 9) ∧ z_Ct l G m_X9_goes [.ref (a0 + 9), .ref (a0 + 36), .ref a2, .int x_7] h_8 (z_Qv (fun h_10 => Q none h_10))))))) : z_Ct l G m_X1_plays [.ref a0, .int x1, .ref a2] h Q := by
  refine z_Ct.of (ls := [some (.ref a0), some (.int x1), some (.ref a2)]) hst rfl (by decide +kernel) (z_le rfl) rfl ?_
  show z_V l G m_X1_plays (z_Fm G m_X1_plays Q) 0 0 h 0 [some (.ref a0), some (.int x1), some (.ref a2)] []
  refine z_aload_n (q := 1) (i := 0) (x := a0) dX1_plays_0 rfl rfl rfl ?_
  refine z_iload_n (q := 2) (i := 1) (x := x1) dX1_plays_1 rfl rfl rfl ?_
  obtain ⟨g_1, hf⟩ := hf
  refine z_cVv m_X1_deals_2 [.int x1] (a0) (q := 5) (rc2 := 0) (rs2 := 0) (st := []) dX1_plays_2 rfl q1461 oV_X1_deals_2 rfl rfl ⟨z_le rfl, z_le rfl⟩ (z_le rfl) (z_rcv_of 0 rfl (z_L0_T g_1) rfl) rfl  rfl hf (fun h_2 hf => ?_)
  refine z_aload_n (q := 6) (i := 0) (x := a0) dX1_plays_5 rfl rfl rfl ?_
  obtain ⟨g_3, hf⟩ := hf
  refine z_get 0 3 (q := 9) (v := .ref (a0 + 9)) rfl (z_lt rfl) (z_L0_T g_3) q508 dX1_plays_6 rfl (z_fvR (fun _ _ _ => rfl) (z_L0_P3 g_3)) ?_
  refine z_aload_n (q := 10) (i := 0) (x := a0) dX1_plays_9 rfl rfl rfl ?_
  refine z_get 0 7 (q := 13) (v := .ref (a0 + 36)) rfl (z_lt rfl) (z_L0_T g_3) q513 dX1_plays_10 rfl (z_fvR (fun _ _ _ => rfl) (z_L0_P7 g_3)) ?_
  refine z_aload_n (q := 14) (i := 2) (x := a2) dX1_plays_13 rfl rfl rfl ?_
  refine z_aload_n (q := 15) (i := 0) (x := a0) dX1_plays_14 rfl rfl rfl ?_
  obtain ⟨b_4, g_5, hf⟩ := hf
  refine z_get 0 4 (q := 18) (v := .ref b_4) rfl (z_lt rfl) (z_L0_T g_3) q510 dX1_plays_15 rfl (z_fvR (fun _ _ _ => rfl) g_5) ?_
  obtain ⟨g_6, hf⟩ := hf
  refine z_cVi m_X10_limit [] (b_4) (q := 21) (rc2 := 0) (rs2 := 0) (st := [.ref a2, .ref (a0 + 36), .ref (a0 + 9)]) dX1_plays_18 rfl q1415 oV_X10_limit rfl rfl ⟨z_le rfl, z_le rfl⟩ (z_le rfl) (z_rcv_of 8 rfl (z_L8_T g_6) rfl) rfl  rfl hf (fun x_7 h_8 hf => ?_)
  obtain ⟨g_9, hf⟩ := hf
  refine z_cVv m_X9_goes [.ref (a0 + 36), .ref a2, .int x_7] ((a0 + 9)) (q := 24) (rc2 := 0) (rs2 := 0) (st := []) dX1_plays_21 rfl q1419 oV_X9_goes rfl rfl ⟨z_le rfl, z_le rfl⟩ (z_le rfl) (z_rcv_of 7 rfl (z_L7_T g_9) rfl) rfl  rfl hf (fun h_10 hf => ?_)
  exact z_vret dX1_plays_24 rfl hf

theorem u_X1_reads {l : Launch} {G : z_G} {a0 : Nat} {h : z_H} {Q : z_Q} (hst : l.stackTraces = false)  (hf : z_L0 h a0 ∧ z_Ct l G m_X2_begin [.ref (a0 + 2), .ref (a0 + 1), .int (h.I a0 11)] h (z_Qv (fun h_2 => z_L0 h_2 a0 ∧ Q none (h_2.sI a0 11 0)))) : z_Ct l G m_X1_reads [.ref a0] h Q := by
  refine z_Ct.of (ls := [some (.ref a0)]) hst rfl (by decide +kernel) (z_le rfl) rfl ?_
  show z_V l G m_X1_reads (z_Fm G m_X1_reads Q) 0 0 h 0 [some (.ref a0)] []
  refine z_aload_n (q := 1) (i := 0) (x := a0) dX1_reads_0 rfl rfl rfl ?_
  obtain ⟨g_1, hf⟩ := hf
  refine z_get 0 1 (q := 4) (v := .ref (a0 + 2)) rfl (z_lt rfl) (z_L0_T g_1) q505 dX1_reads_1 rfl (z_fvR (fun _ _ _ => rfl) (z_L0_P1 g_1)) ?_
  refine z_aload_n (q := 5) (i := 0) (x := a0) dX1_reads_4 rfl rfl rfl ?_
  refine z_get 0 0 (q := 8) (v := .ref (a0 + 1)) rfl (z_lt rfl) (z_L0_T g_1) q504 dX1_reads_5 rfl (z_fvR (fun _ _ _ => rfl) (z_L0_P0 g_1)) ?_
  refine z_aload_n (q := 9) (i := 0) (x := a0) dX1_reads_8 rfl rfl rfl ?_
  refine z_get 0 11 (q := 12) (v := .int (h.I a0 11)) rfl (z_lt rfl) (z_L0_T g_1) q517 dX1_reads_9 rfl rfl ?_
  refine z_cVv m_X2_begin [.ref (a0 + 1), .int (h.I a0 11)] ((a0 + 2)) (q := 15) (rc2 := 0) (rs2 := 0) (st := []) dX1_reads_12 rfl q589 oV_X2_begin rfl rfl ⟨z_le rfl, z_le rfl⟩ (z_le rfl) (z_rcv_of 1 rfl (z_L0_N1 g_1) rfl) rfl  rfl hf (fun h_2 hf => ?_)
  refine z_aload_n (q := 16) (i := 0) (x := a0) dX1_reads_15 rfl rfl rfl ?_
  refine z_iconst (q := 17) (v := 0) dX1_reads_16 rfl rfl ?_
  obtain ⟨g_3, hf⟩ := hf
  refine z_putI 0 11 (q := 20) (x := 0) (v := .int 0) rfl (z_lt rfl) (z_L0_T g_3) q517 rfl dX1_reads_17 rfl rfl rfl rfl (fun _ _ _ => rfl) ?_
  exact z_vret dX1_reads_20 rfl hf

theorem u_X1_row {l : Launch} {G : z_G} {a0 : Nat} {x1 : Int32} {x2 : Int32} {h : z_H} {Q : z_Q} (hst : l.stackTraces = false)  (hf : (x1 < 0 → Q (some (.int (-1))) h) ∧ (¬ x1 < 0 → z_L0 h a0 ∧ z_Ct l G m_X1_firstRow [.ref a0] h (z_Qi (fun x_2 h_3 => (x_2 = 0 → Q (some (.int (-1))) h_3) ∧ (¬ x_2 = 0 → z_L0 h_3 a0 ∧ z_Ct l G m_X1_in [.int x2, .int 0, .int ((h_3.I a0 16) - 1)] h_3 (z_Qi (fun x_5 h_6 => (x_5 = 0 → Q (some (.int (-1))) h_6) ∧ (¬ x_5 = 0 → z_V l G m_X1_row (z_Fm G m_X1_row Q) 0 0 h_6 29 [some (.ref a0), some (.int x1), some (.int x2), some (.int 0)] [])))))))) : z_Ct l G m_X1_row [.ref a0, .int x1, .int x2] h Q := by
  refine z_Ct.of (ls := [some (.ref a0), some (.int x1), some (.int x2), none]) hst rfl (by decide +kernel) (z_le rfl) rfl ?_
  show z_V l G m_X1_row (z_Fm G m_X1_row Q) 1 8 h 0 [some (.ref a0), some (.int x1), some (.int x2), none] []
  refine z_iload_n (q := 1) (i := 1) (x := x1) dX1_row_0 rfl rfl rfl ?_
  refine z_if_lt (q := 4) (tgt := 25) dX1_row_1 rfl rfl (fun hc => ?_) (fun hc => ?_)
  · have hf := hf.1 hc
    refine z_iconst (q := 26) (v := (-1)) dX1_row_25 rfl rfl ?_
    exact z_iret dX1_row_26 rfl hf
  · have hf := hf.2 hc
    refine z_aload_n (q := 5) (i := 0) (x := a0) dX1_row_4 rfl rfl rfl ?_
    obtain ⟨g_1, hf⟩ := hf
    refine z_cVi m_X1_firstRow [] (a0) (q := 8) (rc2 := 0) (rs2 := 0) (st := []) dX1_row_5 rfl q1449 oV_X1_firstRow rfl rfl ⟨z_le rfl, z_le rfl⟩ (z_le rfl) (z_rcv_of 0 rfl (z_L0_T g_1) rfl) rfl  rfl hf (fun x_2 h_3 hf => ?_)
    refine z_if_eq (q := 11) (tgt := 25) dX1_row_8 rfl rfl (fun hc => ?_) (fun hc => ?_)
    · have hf := hf.1 hc
      refine z_iconst (q := 26) (v := (-1)) dX1_row_25 rfl rfl ?_
      exact z_iret dX1_row_26 rfl hf
    · have hf := hf.2 hc
      refine z_iload_n (q := 12) (i := 2) (x := x2) dX1_row_11 rfl rfl rfl ?_
      refine z_iconst (q := 13) (v := 0) dX1_row_12 rfl rfl ?_
      refine z_aload_n (q := 14) (i := 0) (x := a0) dX1_row_13 rfl rfl rfl ?_
      obtain ⟨g_4, hf⟩ := hf
      refine z_get 0 16 (q := 17) (v := .int (h_3.I a0 16)) rfl (z_lt rfl) (z_L0_T g_4) q522 dX1_row_14 rfl rfl ?_
      refine z_iconst (q := 18) (v := 1) dX1_row_17 rfl rfl ?_
      refine z_isub (q := 19) dX1_row_18 rfl ?_
      refine z_cSi m_X1_in [.int x2, .int 0, .int ((h_3.I a0 16) - 1)] (q := 22) (rc2 := 0) (rs2 := 0) (st := []) dX1_row_19 rfl q1259 oS_X1_in rfl rfl ⟨z_le rfl, z_le rfl⟩ (z_le rfl) rfl  rfl hf (fun x_5 h_6 hf => ?_)
      refine z_if_ne (q := 25) (tgt := 27) dX1_row_22 rfl rfl (fun hc => ?_) (fun hc => ?_)
      · have hf := hf.2 hc
        refine z_iconst (q := 28) (v := 0) dX1_row_27 rfl rfl ?_
        refine z_istore_n (q := 29) (i := 3) (ls2 := [some (.ref a0), some (.int x1), some (.int x2), some (.int 0)]) (x := 0) dX1_row_28 rfl (z_lt rfl) rfl rfl ?_
        exact hf
      · have hf := hf.1 hc
        refine z_iconst (q := 26) (v := (-1)) dX1_row_25 rfl rfl ?_
        exact z_iret dX1_row_26 rfl hf

theorem b_X1_row_29 {l : Launch} {G : z_G} {rc rs : Nat} {a0 : Nat} {x1 : Int32} {x2 : Int32} {x3 : Int32} {h : z_H} {Q : z_Q}  (hf : (x1 ≤ x3 → z_L0 h a0 ∧ vp_in x2 24 ∧ Q (some (.int (h.I (a0 + 55) (Int32.toNatClampNeg x2)))) h) ∧ (¬ x1 ≤ x3 → z_L0 h a0 ∧ z_Ct l G m_X1_nextRow [.ref a0] h (z_Qi (fun x_4 h_5 => (x_4 = 0 → Q (some (.int (-1))) h_5) ∧ (¬ x_4 = 0 → z_V l G m_X1_row (z_Fm G m_X1_row Q) rc rs h_5 29 [some (.ref a0), some (.int x1), some (.int x2), some (.int (x3 + 1))] []))))) : z_V l G m_X1_row (z_Fm G m_X1_row Q) rc rs h 29 [some (.ref a0), some (.int x1), some (.int x2), some (.int x3)] [] := by
  refine z_iload_n (q := 30) (i := 3) (x := x3) dX1_row_29 rfl rfl rfl ?_
  refine z_iload_n (q := 31) (i := 1) (x := x1) dX1_row_30 rfl rfl rfl ?_
  refine z_icmp_ge (q := 34) (tgt := 49) dX1_row_31 rfl rfl (fun hc => ?_) (fun hc => ?_)
  · have hf := hf.1 hc
    refine z_aload_n (q := 50) (i := 0) (x := a0) dX1_row_49 rfl rfl rfl ?_
    obtain ⟨g_1, hf⟩ := hf
    refine z_get 0 15 (q := 53) (v := .ref (a0 + 55)) rfl (z_lt rfl) (z_L0_T g_1) q521 dX1_row_50 rfl (z_fvR (fun _ _ _ => rfl) (z_L0_P15 g_1)) ?_
    refine z_iload_n (q := 54) (i := 2) (x := x2) dX1_row_53 rfl rfl rfl ?_
    obtain ⟨g_2, hf⟩ := hf
    refine z_iald (q := 55) (n := 24) (z_L0_A15 g_1) g_2 dX1_row_54 rfl ?_
    exact z_iret dX1_row_55 rfl hf
  · have hf := hf.2 hc
    refine z_aload_n (q := 35) (i := 0) (x := a0) dX1_row_34 rfl rfl rfl ?_
    obtain ⟨g_3, hf⟩ := hf
    refine z_cVi m_X1_nextRow [] (a0) (q := 38) (rc2 := rc) (rs2 := rs) (st := []) dX1_row_35 rfl q1465 oV_X1_nextRow rfl rfl ⟨z_le rfl, z_le rfl⟩ (z_le rfl) (z_rcv_of 0 rfl (z_L0_T g_3) rfl) rfl  rfl hf (fun x_4 h_5 hf => ?_)
    refine z_if_ne (q := 41) (tgt := 43) dX1_row_38 rfl rfl (fun hc => ?_) (fun hc => ?_)
    · have hf := hf.2 hc
      refine z_iinc (q := 46) (i := 3) (x := x3) (v := (x3 + 1)) (ls2 := [some (.ref a0), some (.int x1), some (.int x2), some (.int (x3 + 1))]) dX1_row_43 rfl rfl (z_lt rfl) rfl rfl ?_
      refine z_goto (q := 29) dX1_row_46 rfl ?_
      exact hf
    · have hf := hf.1 hc
      refine z_iconst (q := 42) (v := (-1)) dX1_row_41 rfl rfl ?_
      exact z_iret dX1_row_42 rfl hf

theorem u_X1_rows {l : Launch} {G : z_G} {a0 : Nat} {h : z_H} {Q : z_Q} (hst : l.stackTraces = false)  (hf : z_V l G m_X1_rows (z_Fm G m_X1_rows Q) 0 0 (h.nw (1, 8)) 9 [some (.ref a0), some (.int 1), some (.ref (h.n)), some (.int 0)] []) : z_Ct l G m_X1_rows [.ref a0] h Q := by
  refine z_Ct.of (ls := [some (.ref a0), none, none, none]) hst rfl (by decide +kernel) (z_le rfl) rfl ?_
  show z_V l G m_X1_rows (z_Fm G m_X1_rows Q) 1 8 h 0 [some (.ref a0), none, none, none] []
  refine z_iconst (q := 1) (v := 1) dX1_rows_0 rfl rfl ?_
  refine z_istore_n (q := 2) (i := 1) (ls2 := [some (.ref a0), some (.int 1), none, none]) (x := 1) dX1_rows_1 rfl (z_lt rfl) rfl rfl ?_
  refine z_bipush (q := 4) (v := 8) dX1_rows_2 (by decide) rfl ?_
  refine z_newa 1 (q := 6) (N := 8) (rc2 := 0) (rs2 := 0) (z_lt rfl) (z_lt rfl) rfl q295 (by decide) rfl (z_le rfl) dX1_rows_4 rfl rfl rfl ?_
  refine z_astore_n (q := 7) (i := 2) (ls2 := [some (.ref a0), some (.int 1), some (.ref (h.n)), none]) (x := (h.n)) dX1_rows_6 rfl (z_lt rfl) rfl rfl ?_
  refine z_iconst (q := 8) (v := 0) dX1_rows_7 rfl rfl ?_
  refine z_istore_n (q := 9) (i := 3) (ls2 := [some (.ref a0), some (.int 1), some (.ref (h.n)), some (.int 0)]) (x := 0) dX1_rows_8 rfl (z_lt rfl) rfl rfl ?_
  exact hf

theorem b_X1_rows_9 {l : Launch} {G : z_G} {rc rs : Nat} {a0 : Nat} {x1 : Int32} {a2 : Nat} {x3 : Int32} {h : z_H} {Q : z_Q}  (hf : z_L0 h a0 ∧ ((h.I a0 16) ≤ x3 → Q (some (.int x1)) h) ∧ (¬ (h.I a0 16) ≤ x3 → vp_in x3 24 ∧ ∃ n_3, h.T a2 = (1, n_3) ∧ vp_in (h.I (a0 + 55) (Int32.toNatClampNeg x3)) n_3 ∧ vp_in (h.I (a0 + 55) (Int32.toNatClampNeg x3)) n_3 ∧ ¬ ((h.I a2 (Int32.toNatClampNeg (h.I (a0 + 55) (Int32.toNatClampNeg x3)))) + 1) = 0 ∧ ∀ v_8 : Int32, v_8 = ((x1 * (x3 + 1)) / ((h.I a2 (Int32.toNatClampNeg (h.I (a0 + 55) (Int32.toNatClampNeg x3)))) + 1)) → z_V l G m_X1_rows (z_Fm G m_X1_rows Q) rc rs (h.sI a2 (Int32.toNatClampNeg (h.I (a0 + 55) (Int32.toNatClampNeg x3))) ((h.I a2 (Int32.toNatClampNeg (h.I (a0 + 55) (Int32.toNatClampNeg x3)))) + 1)) 9 [some (.ref a0), some (.int v_8), some (.ref a2), some (.int (x3 + 1))] [])) : z_V l G m_X1_rows (z_Fm G m_X1_rows Q) rc rs h 9 [some (.ref a0), some (.int x1), some (.ref a2), some (.int x3)] [] := by
  refine z_iload_n (q := 10) (i := 3) (x := x3) dX1_rows_9 rfl rfl rfl ?_
  refine z_aload_n (q := 11) (i := 0) (x := a0) dX1_rows_10 rfl rfl rfl ?_
  obtain ⟨g_1, hf⟩ := hf
  refine z_get 0 16 (q := 14) (v := .int (h.I a0 16)) rfl (z_lt rfl) (z_L0_T g_1) q522 dX1_rows_11 rfl rfl ?_
  refine z_icmp_ge (q := 17) (tgt := 43) dX1_rows_14 rfl rfl (fun hc => ?_) (fun hc => ?_)
  · have hf := hf.1 hc
    refine z_iload_n (q := 44) (i := 1) (x := x1) dX1_rows_43 rfl rfl rfl ?_
    exact z_iret dX1_rows_44 rfl hf
  · have hf := hf.2 hc
    refine z_iload_n (q := 18) (i := 1) (x := x1) dX1_rows_17 rfl rfl rfl ?_
    refine z_iload_n (q := 19) (i := 3) (x := x3) dX1_rows_18 rfl rfl rfl ?_
    refine z_iconst (q := 20) (v := 1) dX1_rows_19 rfl rfl ?_
    refine z_iadd (q := 21) dX1_rows_20 rfl ?_
    refine z_imul (q := 22) dX1_rows_21 rfl ?_
    refine z_aload_n (q := 23) (i := 2) (x := a2) dX1_rows_22 rfl rfl rfl ?_
    refine z_aload_n (q := 24) (i := 0) (x := a0) dX1_rows_23 rfl rfl rfl ?_
    refine z_get 0 15 (q := 27) (v := .ref (a0 + 55)) rfl (z_lt rfl) (z_L0_T g_1) q521 dX1_rows_24 rfl (z_fvR (fun _ _ _ => rfl) (z_L0_P15 g_1)) ?_
    refine z_iload_n (q := 28) (i := 3) (x := x3) dX1_rows_27 rfl rfl rfl ?_
    obtain ⟨g_2, hf⟩ := hf
    refine z_iald (q := 29) (n := 24) (z_L0_A15 g_1) g_2 dX1_rows_28 rfl ?_
    refine z_dup2 (q := 30) dX1_rows_29 rfl rfl rfl ?_
    obtain ⟨n_3, g_4, hf⟩ := hf
    obtain ⟨g_5, hf⟩ := hf
    refine z_iald (q := 31) (n := n_3) g_4 g_5 dX1_rows_30 rfl ?_
    refine z_iconst (q := 32) (v := 1) dX1_rows_31 rfl rfl ?_
    refine z_iadd (q := 33) dX1_rows_32 rfl ?_
    refine z_dup_x2 (q := 34) dX1_rows_33 rfl rfl rfl rfl ?_
    obtain ⟨g_6, hf⟩ := hf
    refine z_iast (q := 35) (n := n_3) g_4 g_6 dX1_rows_34 rfl ?_
    obtain ⟨g_7, hf⟩ := hf
    refine z_idiv (q := 36) dX1_rows_35 g_7 rfl ?_
    refine z_nmI (fun v_8 hv_9 => ?_)
    have hf := hf v_8 hv_9
    refine z_istore_n (q := 37) (i := 1) (ls2 := [some (.ref a0), some (.int v_8), some (.ref a2), some (.int x3)]) (x := v_8) dX1_rows_36 rfl (z_lt rfl) rfl rfl ?_
    refine z_iinc (q := 40) (i := 3) (x := x3) (v := (x3 + 1)) (ls2 := [some (.ref a0), some (.int v_8), some (.ref a2), some (.int (x3 + 1))]) dX1_rows_37 rfl rfl (z_lt rfl) rfl rfl ?_
    refine z_goto (q := 9) dX1_rows_40 rfl ?_
    exact hf

theorem u_X1_settles {l : Launch} {G : z_G} {a0 : Nat} {h : z_H} {Q : z_Q} (hst : l.stackTraces = false)  (hf : z_V l G m_X1_settles (z_Fm G m_X1_settles Q) 0 0 h 2 [some (.ref a0), some (.int 0), none] []) : z_Ct l G m_X1_settles [.ref a0] h Q := by
  refine z_Ct.of (ls := [some (.ref a0), none, none]) hst rfl (by decide +kernel) (z_le rfl) rfl ?_
  show z_V l G m_X1_settles (z_Fm G m_X1_settles Q) 0 0 h 0 [some (.ref a0), none, none] []
  refine z_iconst (q := 1) (v := 0) dX1_settles_0 rfl rfl ?_
  refine z_istore_n (q := 2) (i := 1) (ls2 := [some (.ref a0), some (.int 0), none]) (x := 0) dX1_settles_1 rfl (z_lt rfl) rfl rfl ?_
  exact hf

theorem b_X1_settles_2 {l : Launch} {G : z_G} {a0 : Nat} {x1 : Int32} {h : z_H} {Q : z_Q}  (hf : z_L0 h a0 ∧ z_Ct l G m_J2_size [.ref (a0 + 32)] h (z_Qi (fun x_2 h_3 => (x_2 ≤ x1 → Q none h_3) ∧ (¬ x_2 ≤ x1 → z_L0 h_3 a0 ∧ z_Ct l G m_J2_get [.ref (a0 + 32), .int x1] h_3 (z_Qr (fun b_5 h_6 => (h_6.T b_5).1 = 29 ∧ z_L0 h_6 a0 ∧ ((h_6.I b_5 0) = (h_6.I (a0 + 23) 12) → z_V l G m_X1_settles (z_Fm G m_X1_settles Q) 0 0 (h_6.sI (a0 + 23) 23 ((h_6.I (a0 + 23) 23) + ((h_6.I b_5 1) + (((h_6.I b_5 1) * (h_6.I b_5 2)) / 10)))) 2 [some (.ref a0), some (.int (x1 + 1)), none] []) ∧ (¬ (h_6.I b_5 0) = (h_6.I (a0 + 23) 12) → z_V l G m_X1_settles (z_Fm G m_X1_settles Q) 0 0 h_6 2 [some (.ref a0), some (.int (x1 + 1)), none] []))))))) : z_V l G m_X1_settles (z_Fm G m_X1_settles Q) 0 0 h 2 [some (.ref a0), some (.int x1), none] [] := by
  refine z_iload_n (q := 3) (i := 1) (x := x1) dX1_settles_2 rfl rfl rfl ?_
  refine z_aload_n (q := 4) (i := 0) (x := a0) dX1_settles_3 rfl rfl rfl ?_
  obtain ⟨g_1, hf⟩ := hf
  refine z_get 0 6 (q := 7) (v := .ref (a0 + 23)) rfl (z_lt rfl) (z_L0_T g_1) q512 dX1_settles_4 rfl (z_fvR (fun _ _ _ => rfl) (z_L0_P6 g_1)) ?_
  refine z_getN 9 18 (q := 10) (v := .ref (a0 + 32)) rfl (z_lt rfl) (z_L9_T (z_L0_N6 g_1)) (z_nwm q416 rfl) dX1_settles_7 rfl (z_fvR (fun _ _ _ => rfl) (z_L9_P18 (z_L0_N6 g_1))) ?_
  refine z_cVi m_J2_size [] ((a0 + 32)) (q := 13) (rc2 := 0) (rs2 := 0) (st := [.int x1]) dX1_settles_10 rfl q1258 oV_J2_size rfl rfl ⟨z_le rfl, z_le rfl⟩ (z_le rfl) (z_rcv_of 21 rfl (z_L9_N18 (z_L0_N6 g_1)) rfl) rfl  rfl hf (fun x_2 h_3 hf => ?_)
  refine z_icmp_ge (q := 16) (tgt := 80) dX1_settles_13 rfl rfl (fun hc => ?_) (fun hc => ?_)
  · have hf := hf.1 hc
    exact z_vret dX1_settles_80 rfl hf
  · have hf := hf.2 hc
    refine z_aload_n (q := 17) (i := 0) (x := a0) dX1_settles_16 rfl rfl rfl ?_
    obtain ⟨g_4, hf⟩ := hf
    refine z_get 0 6 (q := 20) (v := .ref (a0 + 23)) rfl (z_lt rfl) (z_L0_T g_4) q512 dX1_settles_17 rfl (z_fvR (fun _ _ _ => rfl) (z_L0_P6 g_4)) ?_
    refine z_getN 9 18 (q := 23) (v := .ref (a0 + 32)) rfl (z_lt rfl) (z_L9_T (z_L0_N6 g_4)) (z_nwm q416 rfl) dX1_settles_20 rfl (z_fvR (fun _ _ _ => rfl) (z_L9_P18 (z_L0_N6 g_4))) ?_
    refine z_iload_n (q := 24) (i := 1) (x := x1) dX1_settles_23 rfl rfl rfl ?_
    refine z_cVr m_J2_get [.int x1] ((a0 + 32)) (q := 27) (rc2 := 0) (rs2 := 0) (st := []) dX1_settles_24 rfl q1285 oV_J2_get rfl rfl ⟨z_le rfl, z_le rfl⟩ (z_le rfl) (z_rcv_of 21 rfl (z_L9_N18 (z_L0_N6 g_4)) rfl) rfl  rfl hf (fun b_5 h_6 hf => ?_)
    obtain ⟨g_7, hf⟩ := hf
    refine z_cast (C0 := "BeggarHeaps$Bet") (nm := "BeggarHeaps$Bet") (z_rcv_of 19 rfl g_7 rfl) (Or.inl rfl) q1395 dX1_settles_27 rfl ?_
    refine z_astore_n (q := 31) (i := 2) (ls2 := [some (.ref a0), some (.int x1), some (.ref b_5)]) (x := b_5) dX1_settles_30 rfl (z_lt rfl) rfl rfl ?_
    refine z_aload_n (q := 32) (i := 2) (x := b_5) dX1_settles_31 rfl rfl rfl ?_
    refine z_getN 19 0 (q := 35) (v := .int (h_6.I b_5 0)) rfl (z_lt rfl) g_7 (z_nwm q1561 rfl) dX1_settles_32 rfl rfl ?_
    refine z_aload_n (q := 36) (i := 0) (x := a0) dX1_settles_35 rfl rfl rfl ?_
    obtain ⟨g_8, hf⟩ := hf
    refine z_get 0 6 (q := 39) (v := .ref (a0 + 23)) rfl (z_lt rfl) (z_L0_T g_8) q512 dX1_settles_36 rfl (z_fvR (fun _ _ _ => rfl) (z_L0_P6 g_8)) ?_
    refine z_getN 9 12 (q := 42) (v := .int (h_6.I (a0 + 23) 12)) rfl (z_lt rfl) (z_L9_T (z_L0_N6 g_8)) (z_nwm q402 rfl) dX1_settles_39 rfl rfl ?_
    refine z_icmp_ne (q := 45) (tgt := 74) dX1_settles_42 rfl rfl (fun hc => ?_) (fun hc => ?_)
    · have hf := hf.2 hc
      refine z_iinc (q := 77) (i := 1) (x := x1) (v := (x1 + 1)) (ls2 := [some (.ref a0), some (.int (x1 + 1)), some (.ref b_5)]) dX1_settles_74 rfl rfl (z_lt rfl) rfl rfl ?_
      refine z_goto (q := 2) dX1_settles_77 rfl ?_
      refine z_prune [true, true, false] (ls2 := [some (.ref a0), some (.int (x1 + 1)), none]) rfl ?_
      exact hf
    · have hf := hf.1 hc
      refine z_aload_n (q := 46) (i := 0) (x := a0) dX1_settles_45 rfl rfl rfl ?_
      refine z_get 0 6 (q := 49) (v := .ref (a0 + 23)) rfl (z_lt rfl) (z_L0_T g_8) q512 dX1_settles_46 rfl (z_fvR (fun _ _ _ => rfl) (z_L0_P6 g_8)) ?_
      refine z_dup (q := 50) dX1_settles_49 rfl rfl ?_
      refine z_getN 9 23 (q := 53) (v := .int (h_6.I (a0 + 23) 23)) rfl (z_lt rfl) (z_L9_T (z_L0_N6 g_8)) (z_nwm q426 rfl) dX1_settles_50 rfl rfl ?_
      refine z_aload_n (q := 54) (i := 2) (x := b_5) dX1_settles_53 rfl rfl rfl ?_
      refine z_getN 19 1 (q := 57) (v := .int (h_6.I b_5 1)) rfl (z_lt rfl) g_7 (z_nwm q1563 rfl) dX1_settles_54 rfl rfl ?_
      refine z_aload_n (q := 58) (i := 2) (x := b_5) dX1_settles_57 rfl rfl rfl ?_
      refine z_getN 19 1 (q := 61) (v := .int (h_6.I b_5 1)) rfl (z_lt rfl) g_7 (z_nwm q1563 rfl) dX1_settles_58 rfl rfl ?_
      refine z_aload_n (q := 62) (i := 2) (x := b_5) dX1_settles_61 rfl rfl rfl ?_
      refine z_getN 19 2 (q := 65) (v := .int (h_6.I b_5 2)) rfl (z_lt rfl) g_7 (z_nwm q1565 rfl) dX1_settles_62 rfl rfl ?_
      refine z_imul (q := 66) dX1_settles_65 rfl ?_
      refine z_bipush (q := 68) (v := 10) dX1_settles_66 (by decide) rfl ?_
      refine z_idiv (q := 69) dX1_settles_68 (by decide) rfl ?_
      refine z_iadd (q := 70) dX1_settles_69 rfl ?_
      refine z_iadd (q := 71) dX1_settles_70 rfl ?_
      refine z_putIN 9 23 (q := 74) (x := ((h_6.I (a0 + 23) 23) + ((h_6.I b_5 1) + (((h_6.I b_5 1) * (h_6.I b_5 2)) / 10)))) (v := .int ((h_6.I (a0 + 23) 23) + ((h_6.I b_5 1) + (((h_6.I b_5 1) * (h_6.I b_5 2)) / 10)))) rfl (z_lt rfl) (z_L9_T (z_L0_N6 g_8)) (z_nwm q426 rfl) rfl dX1_settles_71 rfl rfl rfl rfl (fun _ _ _ => rfl) ?_
      refine z_iinc (q := 77) (i := 1) (x := x1) (v := (x1 + 1)) (ls2 := [some (.ref a0), some (.int (x1 + 1)), some (.ref b_5)]) dX1_settles_74 rfl rfl (z_lt rfl) rfl rfl ?_
      refine z_goto (q := 2) dX1_settles_77 rfl ?_
      refine z_prune [true, true, false] (ls2 := [some (.ref a0), some (.int (x1 + 1)), none]) rfl ?_
      exact hf

theorem u_X1_shuffles {l : Launch} {G : z_G} {a0 : Nat} {h : z_H} {Q : z_Q} (hst : l.stackTraces = false)  (hf : z_L0 h a0 ∧ z_V l G m_X1_shuffles (z_Fm G m_X1_shuffles Q) 0 0 (h.sI a0 16 0) 7 [some (.ref a0), some (.int 0), none] []) : z_Ct l G m_X1_shuffles [.ref a0] h Q := by
  refine z_Ct.of (ls := [some (.ref a0), none, none]) hst rfl (by decide +kernel) (z_le rfl) rfl ?_
  show z_V l G m_X1_shuffles (z_Fm G m_X1_shuffles Q) 0 0 h 0 [some (.ref a0), none, none] []
  refine z_aload_n (q := 1) (i := 0) (x := a0) dX1_shuffles_0 rfl rfl rfl ?_
  refine z_iconst (q := 2) (v := 0) dX1_shuffles_1 rfl rfl ?_
  obtain ⟨g_1, hf⟩ := hf
  refine z_putI 0 16 (q := 5) (x := 0) (v := .int 0) rfl (z_lt rfl) (z_L0_T g_1) q522 rfl dX1_shuffles_2 rfl rfl rfl rfl (fun _ _ _ => rfl) ?_
  refine z_iconst (q := 6) (v := 0) dX1_shuffles_5 rfl rfl ?_
  refine z_istore_n (q := 7) (i := 1) (ls2 := [some (.ref a0), some (.int 0), none]) (x := 0) dX1_shuffles_6 rfl (z_lt rfl) rfl rfl ?_
  exact hf

theorem b_X1_shuffles_7 {l : Launch} {G : z_G} {a0 : Nat} {x1 : Int32} {h : z_H} {Q : z_Q}  (hf : z_L0 h a0 ∧ z_Ct l G m_X1_kinds [.ref a0] h (z_Qi (fun x_2 h_3 => (x_2 ≤ x1 → z_L0 h_3 a0 ∧ ∀ v_5 : Int32, v_5 = ((h_3.I a0 16) - 1) → z_V l G m_X1_shuffles (z_Fm G m_X1_shuffles Q) 0 0 h_3 66 [some (.ref a0), some (.int v_5), none] []) ∧ (¬ x_2 ≤ x1 → z_V l G m_X1_shuffles (z_Fm G m_X1_shuffles Q) 0 0 h_3 17 [some (.ref a0), some (.int x1), some (.int 0)] [])))) : z_V l G m_X1_shuffles (z_Fm G m_X1_shuffles Q) 0 0 h 7 [some (.ref a0), some (.int x1), none] [] := by
  refine z_iload_n (q := 8) (i := 1) (x := x1) dX1_shuffles_7 rfl rfl rfl ?_
  refine z_aload_n (q := 9) (i := 0) (x := a0) dX1_shuffles_8 rfl rfl rfl ?_
  obtain ⟨g_1, hf⟩ := hf
  refine z_cVi m_X1_kinds [] (a0) (q := 12) (rc2 := 0) (rs2 := 0) (st := [.int x1]) dX1_shuffles_9 rfl q1254 oV_X1_kinds rfl rfl ⟨z_le rfl, z_le rfl⟩ (z_le rfl) (z_rcv_of 0 rfl (z_L0_T g_1) rfl) rfl  rfl hf (fun x_2 h_3 hf => ?_)
  refine z_icmp_ge (q := 15) (tgt := 59) dX1_shuffles_12 rfl rfl (fun hc => ?_) (fun hc => ?_)
  · have hf := hf.1 hc
    refine z_aload_n (q := 60) (i := 0) (x := a0) dX1_shuffles_59 rfl rfl rfl ?_
    obtain ⟨g_4, hf⟩ := hf
    refine z_get 0 16 (q := 63) (v := .int (h_3.I a0 16)) rfl (z_lt rfl) (z_L0_T g_4) q522 dX1_shuffles_60 rfl rfl ?_
    refine z_iconst (q := 64) (v := 1) dX1_shuffles_63 rfl rfl ?_
    refine z_isub (q := 65) dX1_shuffles_64 rfl ?_
    refine z_nmI (fun v_5 hv_6 => ?_)
    have hf := hf v_5 hv_6
    refine z_istore_n (q := 66) (i := 1) (ls2 := [some (.ref a0), some (.int v_5), none]) (x := v_5) dX1_shuffles_65 rfl (z_lt rfl) rfl rfl ?_
    exact hf
  · have hf := hf.2 hc
    refine z_iconst (q := 16) (v := 0) dX1_shuffles_15 rfl rfl ?_
    refine z_istore_n (q := 17) (i := 2) (ls2 := [some (.ref a0), some (.int x1), some (.int 0)]) (x := 0) dX1_shuffles_16 rfl (z_lt rfl) rfl rfl ?_
    exact hf

theorem b_X1_shuffles_66 {l : Launch} {G : z_G} {a0 : Nat} {x1 : Int32} {h : z_H} {Q : z_Q}  (hf : (x1 ≤ 0 → Q none h) ∧ (¬ x1 ≤ 0 → z_L0 h a0 ∧ z_Ct l G m_X1_draws [.ref a0, .int (x1 + 1)] h (z_Qi (fun x_2 h_3 => z_L0 h_3 a0 ∧ z_Ct l G m_X1_changes [.ref a0, .int x1, .int x_2] h_3 (z_Qv (fun h_5 => z_V l G m_X1_shuffles (z_Fm G m_X1_shuffles Q) 0 0 h_5 66 [some (.ref a0), some (.int (x1 + (-1))), none] [])))))) : z_V l G m_X1_shuffles (z_Fm G m_X1_shuffles Q) 0 0 h 66 [some (.ref a0), some (.int x1), none] [] := by
  refine z_iload_n (q := 67) (i := 1) (x := x1) dX1_shuffles_66 rfl rfl rfl ?_
  refine z_if_le (q := 70) (tgt := 88) dX1_shuffles_67 rfl rfl (fun hc => ?_) (fun hc => ?_)
  · have hf := hf.1 hc
    exact z_vret dX1_shuffles_88 rfl hf
  · have hf := hf.2 hc
    refine z_aload_n (q := 71) (i := 0) (x := a0) dX1_shuffles_70 rfl rfl rfl ?_
    refine z_iload_n (q := 72) (i := 1) (x := x1) dX1_shuffles_71 rfl rfl rfl ?_
    refine z_aload_n (q := 73) (i := 0) (x := a0) dX1_shuffles_72 rfl rfl rfl ?_
    refine z_iload_n (q := 74) (i := 1) (x := x1) dX1_shuffles_73 rfl rfl rfl ?_
    refine z_iconst (q := 75) (v := 1) dX1_shuffles_74 rfl rfl ?_
    refine z_iadd (q := 76) dX1_shuffles_75 rfl ?_
    obtain ⟨g_1, hf⟩ := hf
    refine z_cVi m_X1_draws [.int (x1 + 1)] (a0) (q := 79) (rc2 := 0) (rs2 := 0) (st := [.int x1, .ref a0]) dX1_shuffles_76 rfl q1626 oV_X1_draws rfl rfl ⟨z_le rfl, z_le rfl⟩ (z_le rfl) (z_rcv_of 0 rfl (z_L0_T g_1) rfl) rfl  rfl hf (fun x_2 h_3 hf => ?_)
    obtain ⟨g_4, hf⟩ := hf
    refine z_cVv m_X1_changes [.int x1, .int x_2] (a0) (q := 82) (rc2 := 0) (rs2 := 0) (st := []) dX1_shuffles_79 rfl q1469 oV_X1_changes rfl rfl ⟨z_le rfl, z_le rfl⟩ (z_le rfl) (z_rcv_of 0 rfl (z_L0_T g_4) rfl) rfl  rfl hf (fun h_5 hf => ?_)
    refine z_iinc (q := 85) (i := 1) (x := x1) (v := (x1 + (-1))) (ls2 := [some (.ref a0), some (.int (x1 + (-1))), none]) dX1_shuffles_82 rfl rfl (z_lt rfl) rfl rfl ?_
    refine z_goto (q := 66) dX1_shuffles_85 rfl ?_
    exact hf

theorem b_X1_shuffles_17 {l : Launch} {G : z_G} {a0 : Nat} {x1 : Int32} {x2 : Int32} {h : z_H} {Q : z_Q}  (hf : z_L0 h a0 ∧ ∃ b_2, (h.P a0 4) = some b_2 ∧ z_L8 h b_2 ∧ vp_in x1 8 ∧ ((h.I (b_2 + 4) (Int32.toNatClampNeg x1)) ≤ x2 → z_V l G m_X1_shuffles (z_Fm G m_X1_shuffles Q) 0 0 h 7 [some (.ref a0), some (.int (x1 + 1)), none] []) ∧ (¬ (h.I (b_2 + 4) (Int32.toNatClampNeg x1)) ≤ x2 → vp_in (h.I a0 16) 24 ∧ z_V l G m_X1_shuffles (z_Fm G m_X1_shuffles Q) 0 0 ((h.sI a0 16 ((h.I a0 16) + 1)).sI (a0 + 55) (Int32.toNatClampNeg (h.I a0 16)) x1) 17 [some (.ref a0), some (.int x1), some (.int (x2 + 1))] [])) : z_V l G m_X1_shuffles (z_Fm G m_X1_shuffles Q) 0 0 h 17 [some (.ref a0), some (.int x1), some (.int x2)] [] := by
  refine z_iload_n (q := 18) (i := 2) (x := x2) dX1_shuffles_17 rfl rfl rfl ?_
  refine z_aload_n (q := 19) (i := 0) (x := a0) dX1_shuffles_18 rfl rfl rfl ?_
  obtain ⟨g_1, hf⟩ := hf
  obtain ⟨b_2, g_3, hf⟩ := hf
  refine z_get 0 4 (q := 22) (v := .ref b_2) rfl (z_lt rfl) (z_L0_T g_1) q510 dX1_shuffles_19 rfl (z_fvR (fun _ _ _ => rfl) g_3) ?_
  obtain ⟨g_4, hf⟩ := hf
  refine z_getN 8 2 (q := 25) (v := .ref (b_2 + 4)) rfl (z_lt rfl) (z_L8_T g_4) (z_nwm q338 rfl) dX1_shuffles_22 rfl (z_fvR (fun _ _ _ => rfl) (z_L8_P2 g_4)) ?_
  refine z_iload_n (q := 26) (i := 1) (x := x1) dX1_shuffles_25 rfl rfl rfl ?_
  obtain ⟨g_5, hf⟩ := hf
  refine z_iald (q := 27) (n := 8) (z_L8_A2 g_4) g_5 dX1_shuffles_26 rfl ?_
  refine z_icmp_ge (q := 30) (tgt := 53) dX1_shuffles_27 rfl rfl (fun hc => ?_) (fun hc => ?_)
  · have hf := hf.1 hc
    refine z_iinc (q := 56) (i := 1) (x := x1) (v := (x1 + 1)) (ls2 := [some (.ref a0), some (.int (x1 + 1)), some (.int x2)]) dX1_shuffles_53 rfl rfl (z_lt rfl) rfl rfl ?_
    refine z_goto (q := 7) dX1_shuffles_56 rfl ?_
    refine z_prune [true, true, false] (ls2 := [some (.ref a0), some (.int (x1 + 1)), none]) rfl ?_
    exact hf
  · have hf := hf.2 hc
    refine z_aload_n (q := 31) (i := 0) (x := a0) dX1_shuffles_30 rfl rfl rfl ?_
    refine z_get 0 15 (q := 34) (v := .ref (a0 + 55)) rfl (z_lt rfl) (z_L0_T g_1) q521 dX1_shuffles_31 rfl (z_fvR (fun _ _ _ => rfl) (z_L0_P15 g_1)) ?_
    refine z_aload_n (q := 35) (i := 0) (x := a0) dX1_shuffles_34 rfl rfl rfl ?_
    refine z_dup (q := 36) dX1_shuffles_35 rfl rfl ?_
    refine z_get 0 16 (q := 39) (v := .int (h.I a0 16)) rfl (z_lt rfl) (z_L0_T g_1) q522 dX1_shuffles_36 rfl rfl ?_
    refine z_dup_x1 (q := 40) dX1_shuffles_39 rfl rfl rfl ?_
    refine z_iconst (q := 41) (v := 1) dX1_shuffles_40 rfl rfl ?_
    refine z_iadd (q := 42) dX1_shuffles_41 rfl ?_
    refine z_putI 0 16 (q := 45) (x := ((h.I a0 16) + 1)) (v := .int ((h.I a0 16) + 1)) rfl (z_lt rfl) (z_L0_T g_1) q522 rfl dX1_shuffles_42 rfl rfl rfl rfl (fun _ _ _ => rfl) ?_
    refine z_iload_n (q := 46) (i := 1) (x := x1) dX1_shuffles_45 rfl rfl rfl ?_
    obtain ⟨g_6, hf⟩ := hf
    refine z_iast (q := 47) (n := 24) (z_L0_A15 g_1) g_6 dX1_shuffles_46 rfl ?_
    refine z_iinc (q := 50) (i := 2) (x := x2) (v := (x2 + 1)) (ls2 := [some (.ref a0), some (.int x1), some (.int (x2 + 1))]) dX1_shuffles_47 rfl rfl (z_lt rfl) rfl rfl ?_
    refine z_goto (q := 17) dX1_shuffles_50 rfl ?_
    exact hf

theorem u_X1_slip {l : Launch} {G : z_G} {a0 : Nat} {x1 : Int32} {h : z_H} {Q : z_Q} (hst : l.stackTraces = false)  (hf : z_Ct l G m_X1_in [.int x1, .int 0, .int 2] h (z_Qi (fun x_1 h_2 => (x_1 = 0 → Q (some (.int 0)) h_2) ∧ (¬ x_1 = 0 → z_L0 h_2 a0 ∧ (0 ≤ (h_2.I (a0 + 23) 12) → Q (some (.int 0)) h_2) ∧ (¬ 0 ≤ (h_2.I (a0 + 23) 12) → (x1 = 1 → ((h_2.I (a0 + 23) 16) = 0 → (x1 = 1 → z_V l G m_X1_slip (z_Fm G m_X1_slip Q) 63 3526 h_2 59 [some (.ref a0), some (.int x1), none, none, none] []) ∧ (¬ x1 = 1 → z_Ct l G m_X11_cards [.ref (a0 + 23), .int (h_2.I (a0 + 23) 11)] h_2 (z_Qi (fun x_6 h_7 => (2 ≤ x_6 → z_V l G m_X1_slip (z_Fm G m_X1_slip Q) 63 3526 h_7 59 [some (.ref a0), some (.int x1), none, none, none] []) ∧ (¬ 2 ≤ x_6 → Q (some (.int 0)) h_7))))) ∧ (¬ (h_2.I (a0 + 23) 16) = 0 → Q (some (.int 0)) h_2)) ∧ (¬ x1 = 1 → (x1 = 1 → z_V l G m_X1_slip (z_Fm G m_X1_slip Q) 63 3526 h_2 59 [some (.ref a0), some (.int x1), none, none, none] []) ∧ (¬ x1 = 1 → z_Ct l G m_X11_cards [.ref (a0 + 23), .int (h_2.I (a0 + 23) 11)] h_2 (z_Qi (fun x_4 h_5 => (2 ≤ x_4 → z_V l G m_X1_slip (z_Fm G m_X1_slip Q) 63 3526 h_5 59 [some (.ref a0), some (.int x1), none, none, none] []) ∧ (¬ 2 ≤ x_4 → Q (some (.int 0)) h_5)))))))))) : z_Ct l G m_X1_slip [.ref a0, .int x1] h Q := by
  refine z_Ct.of (ls := [some (.ref a0), some (.int x1), none, none, none]) hst rfl (by decide +kernel) (z_le rfl) rfl ?_
  show z_V l G m_X1_slip (z_Fm G m_X1_slip Q) 63 3526 h 0 [some (.ref a0), some (.int x1), none, none, none] []
  refine z_iload_n (q := 1) (i := 1) (x := x1) dX1_slip_0 rfl rfl rfl ?_
  refine z_iconst (q := 2) (v := 0) dX1_slip_1 rfl rfl ?_
  refine z_iconst (q := 3) (v := 2) dX1_slip_2 rfl rfl ?_
  refine z_cSi m_X1_in [.int x1, .int 0, .int 2] (q := 6) (rc2 := 63) (rs2 := 3526) (st := []) dX1_slip_3 rfl q1259 oS_X1_in rfl rfl ⟨z_le rfl, z_le rfl⟩ (z_le rfl) rfl  rfl hf (fun x_1 h_2 hf => ?_)
  refine z_if_eq (q := 9) (tgt := 57) dX1_slip_6 rfl rfl (fun hc => ?_) (fun hc => ?_)
  · have hf := hf.1 hc
    refine z_iconst (q := 58) (v := 0) dX1_slip_57 rfl rfl ?_
    exact z_zret dX1_slip_58 rfl (z_nb01 z_b0) hf
  · have hf := hf.2 hc
    refine z_aload_n (q := 10) (i := 0) (x := a0) dX1_slip_9 rfl rfl rfl ?_
    obtain ⟨g_3, hf⟩ := hf
    refine z_get 0 6 (q := 13) (v := .ref (a0 + 23)) rfl (z_lt rfl) (z_L0_T g_3) q512 dX1_slip_10 rfl (z_fvR (fun _ _ _ => rfl) (z_L0_P6 g_3)) ?_
    refine z_getN 9 12 (q := 16) (v := .int (h_2.I (a0 + 23) 12)) rfl (z_lt rfl) (z_L9_T (z_L0_N6 g_3)) (z_nwm q402 rfl) dX1_slip_13 rfl rfl ?_
    refine z_if_ge (q := 19) (tgt := 57) dX1_slip_16 rfl rfl (fun hc => ?_) (fun hc => ?_)
    · have hf := hf.1 hc
      refine z_iconst (q := 58) (v := 0) dX1_slip_57 rfl rfl ?_
      exact z_zret dX1_slip_58 rfl (z_nb01 z_b0) hf
    · have hf := hf.2 hc
      refine z_iload_n (q := 20) (i := 1) (x := x1) dX1_slip_19 rfl rfl rfl ?_
      refine z_iconst (q := 21) (v := 1) dX1_slip_20 rfl rfl ?_
      refine z_icmp_ne (q := 24) (tgt := 34) dX1_slip_21 rfl rfl (fun hc => ?_) (fun hc => ?_)
      · have hf := hf.2 hc
        refine z_iload_n (q := 35) (i := 1) (x := x1) dX1_slip_34 rfl rfl rfl ?_
        refine z_iconst (q := 36) (v := 1) dX1_slip_35 rfl rfl ?_
        refine z_icmp_eq (q := 39) (tgt := 59) dX1_slip_36 rfl rfl (fun hc => ?_) (fun hc => ?_)
        · have hf := hf.1 hc
          exact hf
        · have hf := hf.2 hc
          refine z_aload_n (q := 40) (i := 0) (x := a0) dX1_slip_39 rfl rfl rfl ?_
          refine z_get 0 6 (q := 43) (v := .ref (a0 + 23)) rfl (z_lt rfl) (z_L0_T g_3) q512 dX1_slip_40 rfl (z_fvR (fun _ _ _ => rfl) (z_L0_P6 g_3)) ?_
          refine z_aload_n (q := 44) (i := 0) (x := a0) dX1_slip_43 rfl rfl rfl ?_
          refine z_get 0 6 (q := 47) (v := .ref (a0 + 23)) rfl (z_lt rfl) (z_L0_T g_3) q512 dX1_slip_44 rfl (z_fvR (fun _ _ _ => rfl) (z_L0_P6 g_3)) ?_
          refine z_getN 9 11 (q := 50) (v := .int (h_2.I (a0 + 23) 11)) rfl (z_lt rfl) (z_L9_T (z_L0_N6 g_3)) (z_nwm q399 rfl) dX1_slip_47 rfl rfl ?_
          refine z_cVi m_X11_cards [.int (h_2.I (a0 + 23) 11)] ((a0 + 23)) (q := 53) (rc2 := 63) (rs2 := 3526) (st := []) dX1_slip_50 rfl q1262 oV_X11_cards rfl rfl ⟨z_le rfl, z_le rfl⟩ (z_le rfl) (z_rcv_of 9 rfl (z_L9_T (z_L0_N6 g_3)) rfl) rfl  rfl hf (fun x_4 h_5 hf => ?_)
          refine z_iconst (q := 54) (v := 2) dX1_slip_53 rfl rfl ?_
          refine z_icmp_ge (q := 57) (tgt := 59) dX1_slip_54 rfl rfl (fun hc => ?_) (fun hc => ?_)
          · have hf := hf.1 hc
            exact hf
          · have hf := hf.2 hc
            refine z_iconst (q := 58) (v := 0) dX1_slip_57 rfl rfl ?_
            exact z_zret dX1_slip_58 rfl (z_nb01 z_b0) hf
      · have hf := hf.1 hc
        refine z_aload_n (q := 25) (i := 0) (x := a0) dX1_slip_24 rfl rfl rfl ?_
        refine z_get 0 6 (q := 28) (v := .ref (a0 + 23)) rfl (z_lt rfl) (z_L0_T g_3) q512 dX1_slip_25 rfl (z_fvR (fun _ _ _ => rfl) (z_L0_P6 g_3)) ?_
        refine z_getN 9 16 (q := 31) (v := .int (h_2.I (a0 + 23) 16)) rfl (z_lt rfl) (z_L9_T (z_L0_N6 g_3)) (z_nwm q412 rfl) dX1_slip_28 rfl rfl ?_
        refine z_if_ne (q := 34) (tgt := 57) dX1_slip_31 rfl rfl (fun hc => ?_) (fun hc => ?_)
        · have hf := hf.2 hc
          refine z_iconst (q := 58) (v := 0) dX1_slip_57 rfl rfl ?_
          exact z_zret dX1_slip_58 rfl (z_nb01 z_b0) hf
        · have hf := hf.1 hc
          refine z_iload_n (q := 35) (i := 1) (x := x1) dX1_slip_34 rfl rfl rfl ?_
          refine z_iconst (q := 36) (v := 1) dX1_slip_35 rfl rfl ?_
          refine z_icmp_eq (q := 39) (tgt := 59) dX1_slip_36 rfl rfl (fun hc => ?_) (fun hc => ?_)
          · have hf := hf.1 hc
            exact hf
          · have hf := hf.2 hc
            refine z_aload_n (q := 40) (i := 0) (x := a0) dX1_slip_39 rfl rfl rfl ?_
            refine z_get 0 6 (q := 43) (v := .ref (a0 + 23)) rfl (z_lt rfl) (z_L0_T g_3) q512 dX1_slip_40 rfl (z_fvR (fun _ _ _ => rfl) (z_L0_P6 g_3)) ?_
            refine z_aload_n (q := 44) (i := 0) (x := a0) dX1_slip_43 rfl rfl rfl ?_
            refine z_get 0 6 (q := 47) (v := .ref (a0 + 23)) rfl (z_lt rfl) (z_L0_T g_3) q512 dX1_slip_44 rfl (z_fvR (fun _ _ _ => rfl) (z_L0_P6 g_3)) ?_
            refine z_getN 9 11 (q := 50) (v := .int (h_2.I (a0 + 23) 11)) rfl (z_lt rfl) (z_L9_T (z_L0_N6 g_3)) (z_nwm q399 rfl) dX1_slip_47 rfl rfl ?_
            refine z_cVi m_X11_cards [.int (h_2.I (a0 + 23) 11)] ((a0 + 23)) (q := 53) (rc2 := 63) (rs2 := 3526) (st := []) dX1_slip_50 rfl q1262 oV_X11_cards rfl rfl ⟨z_le rfl, z_le rfl⟩ (z_le rfl) (z_rcv_of 9 rfl (z_L9_T (z_L0_N6 g_3)) rfl) rfl  rfl hf (fun x_6 h_7 hf => ?_)
            refine z_iconst (q := 54) (v := 2) dX1_slip_53 rfl rfl ?_
            refine z_icmp_ge (q := 57) (tgt := 59) dX1_slip_54 rfl rfl (fun hc => ?_) (fun hc => ?_)
            · have hf := hf.1 hc
              exact hf
            · have hf := hf.2 hc
              refine z_iconst (q := 58) (v := 0) dX1_slip_57 rfl rfl ?_
              exact z_zret dX1_slip_58 rfl (z_nb01 z_b0) hf

theorem b_X1_slip_59 {l : Launch} {G : z_G} {rc rs : Nat} {a0 : Nat} {x1 : Int32} {h : z_H} {Q : z_Q}  (hf : ∃ rc_1, rc = rc_1 + 61 ∧ ∃ rs_3, rs = rs_3 + 3458 ∧ z_L0 h a0 ∧ z_Ct l G m_X1_keeps [.ref a0] h (z_Qv (fun h_6 => z_L0 h_6 a0 ∧ ∀ v_8 : Int32, v_8 = (h_6.I (a0 + 23) 11) → (x1 = 0 → z_Ct l G m_X11_turnsUp [.ref (a0 + 23)] h_6 (z_Qv (fun h_20 => ∃ rc_21, rc_1 = rc_21 + 2 ∧ ∃ rs_23, rs_3 = rs_23 + 68 ∧ z_L0 h_20 a0 ∧ z_Ct l G m_X1_turns [.ref a0] h_20 (z_Qi (fun x_26 h_27 => Q (some (.int 1)) h_27))))) ∧ (¬ x1 = 0 → (x1 = 1 → Q (some (.int 1)) (h_6.sI (a0 + 23) 16 1)) ∧ (¬ x1 = 1 → ((v_8 = 0 → vp_in 0 48 ∧ True) ∧ (¬ v_8 = 0 → vp_in 0 48 ∧ True)) ∧ ∀ v_14 : Int32, v_14 = (if v_8 = 0 then (h_6.I (a0 + 28) (Int32.toNatClampNeg 0)) else (h_6.I (a0 + 29) (Int32.toNatClampNeg 0))) → z_Ct l G m_X11_gives [.ref (a0 + 23), .int v_8] h_6 (z_Qi (fun x_16 h_17 => z_L0 h_17 a0 ∧ z_Ct l G m_X11_gets [.ref (a0 + 23), .int v_8, .int x_16, .int v_14] h_17 (z_Qv (fun h_19 => Q (some (.int 1)) h_19))))))))) : z_V l G m_X1_slip (z_Fm G m_X1_slip Q) rc rs h 59 [some (.ref a0), some (.int x1), none, none, none] [] := by
  refine z_aload_n (q := 60) (i := 0) (x := a0) dX1_slip_59 rfl rfl rfl ?_
  obtain ⟨rc_1, g_2, hf⟩ := hf
  obtain ⟨rs_3, g_4, hf⟩ := hf
  obtain ⟨g_5, hf⟩ := hf
  refine z_cVv m_X1_keeps [] (a0) (q := 63) (rc2 := rc_1) (rs2 := rs_3) (st := []) dX1_slip_60 rfl q1291 oV_X1_keeps rfl rfl ⟨z_le rfl, z_le rfl⟩ (z_le rfl) (z_rcv_of 0 rfl (z_L0_T g_5) rfl) g_2  g_4 hf (fun h_6 hf => ?_)
  refine z_aload_n (q := 64) (i := 0) (x := a0) dX1_slip_63 rfl rfl rfl ?_
  obtain ⟨g_7, hf⟩ := hf
  refine z_get 0 6 (q := 67) (v := .ref (a0 + 23)) rfl (z_lt rfl) (z_L0_T g_7) q512 dX1_slip_64 rfl (z_fvR (fun _ _ _ => rfl) (z_L0_P6 g_7)) ?_
  refine z_getN 9 11 (q := 70) (v := .int (h_6.I (a0 + 23) 11)) rfl (z_lt rfl) (z_L9_T (z_L0_N6 g_7)) (z_nwm q399 rfl) dX1_slip_67 rfl rfl ?_
  refine z_nmI (fun v_8 hv_9 => ?_)
  have hf := hf v_8 hv_9
  refine z_istore_n (q := 71) (i := 2) (ls2 := [some (.ref a0), some (.int x1), some (.int v_8), none, none]) (x := v_8) dX1_slip_70 rfl (z_lt rfl) rfl rfl ?_
  refine z_iload_n (q := 72) (i := 1) (x := x1) dX1_slip_71 rfl rfl rfl ?_
  refine z_if_ne (q := 75) (tgt := 90) dX1_slip_72 rfl rfl (fun hc => ?_) (fun hc => ?_)
  · have hf := hf.2 hc
    refine z_iload_n (q := 91) (i := 1) (x := x1) dX1_slip_90 rfl rfl rfl ?_
    refine z_iconst (q := 92) (v := 1) dX1_slip_91 rfl rfl ?_
    refine z_icmp_ne (q := 95) (tgt := 106) dX1_slip_92 rfl rfl (fun hc => ?_) (fun hc => ?_)
    · have hf := hf.2 hc
      refine z_iload_n (q := 107) (i := 2) (x := v_8) dX1_slip_106 rfl rfl rfl ?_
      obtain ⟨hsc, hf⟩ := hf
      have hk : z_V l G m_X1_slip (z_Fm G m_X1_slip Q) rc_1 rs_3 h_6 131 [some (.ref a0), some (.int x1), some (.int v_8), none, none] [.int (if v_8 = 0 then (h_6.I (a0 + 28) (Int32.toNatClampNeg 0)) else (h_6.I (a0 + 29) (Int32.toNatClampNeg 0)))] := by
        refine z_nmI (fun v_14 hv_15 => ?_)
        have hf := hf v_14 hv_15
        refine z_istore_n (q := 132) (i := 3) (ls2 := [some (.ref a0), some (.int x1), some (.int v_8), some (.int v_14), none]) (x := v_14) dX1_slip_131 rfl (z_lt rfl) rfl rfl ?_
        refine z_aload_n (q := 133) (i := 0) (x := a0) dX1_slip_132 rfl rfl rfl ?_
        refine z_get 0 6 (q := 136) (v := .ref (a0 + 23)) rfl (z_lt rfl) (z_L0_T g_7) q512 dX1_slip_133 rfl (z_fvR (fun _ _ _ => rfl) (z_L0_P6 g_7)) ?_
        refine z_iload_n (q := 137) (i := 2) (x := v_8) dX1_slip_136 rfl rfl rfl ?_
        refine z_cVi m_X11_gives [.int v_8] ((a0 + 23)) (q := 140) (rc2 := rc_1) (rs2 := rs_3) (st := []) dX1_slip_137 rfl q1401 oV_X11_gives rfl rfl ⟨z_le rfl, z_le rfl⟩ (z_le rfl) (z_rcv_of 9 rfl (z_L9_T (z_L0_N6 g_7)) rfl) rfl  rfl hf (fun x_16 h_17 hf => ?_)
        refine z_istore (q := 142) (i := 4) (ls2 := [some (.ref a0), some (.int x1), some (.int v_8), some (.int v_14), some (.int x_16)]) (x := x_16) dX1_slip_140 (z_lt rfl) rfl rfl ?_
        refine z_aload_n (q := 143) (i := 0) (x := a0) dX1_slip_142 rfl rfl rfl ?_
        obtain ⟨g_18, hf⟩ := hf
        refine z_get 0 6 (q := 146) (v := .ref (a0 + 23)) rfl (z_lt rfl) (z_L0_T g_18) q512 dX1_slip_143 rfl (z_fvR (fun _ _ _ => rfl) (z_L0_P6 g_18)) ?_
        refine z_iload_n (q := 147) (i := 2) (x := v_8) dX1_slip_146 rfl rfl rfl ?_
        refine z_iload (q := 149) (i := 4) (x := x_16) dX1_slip_147 rfl rfl ?_
        refine z_iload_n (q := 150) (i := 3) (x := v_14) dX1_slip_149 rfl rfl rfl ?_
        refine z_cVv m_X11_gets [.int v_8, .int x_16, .int v_14] ((a0 + 23)) (q := 153) (rc2 := rc_1) (rs2 := rs_3) (st := []) dX1_slip_150 rfl q1184 oV_X11_gets rfl rfl ⟨z_le rfl, z_le rfl⟩ (z_le rfl) (z_rcv_of 9 rfl (z_L9_T (z_L0_N6 g_18)) rfl) rfl  rfl hf (fun h_19 hf => ?_)
        refine z_iconst (q := 154) (v := 1) dX1_slip_153 rfl rfl ?_
        exact z_zret dX1_slip_154 rfl (z_nb01 z_b1) hf
      refine z_if_ne (q := 110) (tgt := 122) dX1_slip_107 rfl rfl (fun hc => ?_) (fun hc => ?_)
      · have hk := (z_ite hk).2 hc
        have hsc := hsc.2 hc
        obtain ⟨g_12, hsc⟩ := hsc
        refine z_aload_n (q := 123) (i := 0) (x := a0) dX1_slip_122 rfl rfl rfl ?_
        refine z_get 0 6 (q := 126) (v := .ref (a0 + 23)) rfl (z_lt rfl) (z_L0_T g_7) q512 dX1_slip_123 rfl (z_fvR (fun _ _ _ => rfl) (z_L0_P6 g_7)) ?_
        refine z_getN 9 5 (q := 129) (v := .ref (a0 + 29)) rfl (z_lt rfl) (z_L9_T (z_L0_N6 g_7)) (z_nwm q384 rfl) dX1_slip_126 rfl (z_fvR (fun _ _ _ => rfl) (z_L9_P5 (z_L0_N6 g_7))) ?_
        refine z_iconst (q := 130) (v := 0) dX1_slip_129 rfl rfl ?_
        refine z_zald (q := 131) (n := 48) (z_L9_A5 (z_L0_N6 g_7)) g_12 dX1_slip_130 rfl ?_
        exact hk
      · have hk := (z_ite hk).1 hc
        have hsc := hsc.1 hc
        obtain ⟨g_13, hsc⟩ := hsc
        refine z_aload_n (q := 111) (i := 0) (x := a0) dX1_slip_110 rfl rfl rfl ?_
        refine z_get 0 6 (q := 114) (v := .ref (a0 + 23)) rfl (z_lt rfl) (z_L0_T g_7) q512 dX1_slip_111 rfl (z_fvR (fun _ _ _ => rfl) (z_L0_P6 g_7)) ?_
        refine z_getN 9 4 (q := 117) (v := .ref (a0 + 28)) rfl (z_lt rfl) (z_L9_T (z_L0_N6 g_7)) (z_nwm q382 rfl) dX1_slip_114 rfl (z_fvR (fun _ _ _ => rfl) (z_L9_P4 (z_L0_N6 g_7))) ?_
        refine z_iconst (q := 118) (v := 0) dX1_slip_117 rfl rfl ?_
        refine z_zald (q := 119) (n := 48) (z_L9_A4 (z_L0_N6 g_7)) g_13 dX1_slip_118 rfl ?_
        refine z_goto (q := 131) dX1_slip_119 rfl ?_
        exact hk
    · have hf := hf.1 hc
      refine z_aload_n (q := 96) (i := 0) (x := a0) dX1_slip_95 rfl rfl rfl ?_
      refine z_get 0 6 (q := 99) (v := .ref (a0 + 23)) rfl (z_lt rfl) (z_L0_T g_7) q512 dX1_slip_96 rfl (z_fvR (fun _ _ _ => rfl) (z_L0_P6 g_7)) ?_
      refine z_iconst (q := 100) (v := 1) dX1_slip_99 rfl rfl ?_
      refine z_putIN 9 16 (q := 103) (x := 1) (v := .int 1) rfl (z_lt rfl) (z_L9_T (z_L0_N6 g_7)) (z_nwm q412 rfl) rfl dX1_slip_100 rfl rfl rfl rfl (fun _ _ _ => rfl) ?_
      refine z_goto (q := 153) dX1_slip_103 rfl ?_
      refine z_iconst (q := 154) (v := 1) dX1_slip_153 rfl rfl ?_
      exact z_zret dX1_slip_154 rfl (z_nb01 z_b1) hf
  · have hf := hf.1 hc
    refine z_aload_n (q := 76) (i := 0) (x := a0) dX1_slip_75 rfl rfl rfl ?_
    refine z_get 0 6 (q := 79) (v := .ref (a0 + 23)) rfl (z_lt rfl) (z_L0_T g_7) q512 dX1_slip_76 rfl (z_fvR (fun _ _ _ => rfl) (z_L0_P6 g_7)) ?_
    refine z_cVNv m_X11_turnsUp [] ((a0 + 23)) (q := 82) (rc2 := rc_1) (rs2 := rs_3) (st := []) dX1_slip_79 rfl (z_nwm q1400 rfl) oV_X11_turnsUp rfl rfl ⟨z_le rfl, z_le rfl⟩ (z_le rfl) (z_rcv_of 9 rfl (z_L9_T (z_L0_N6 g_7)) rfl) rfl  rfl hf (fun h_20 hf => ?_)
    refine z_aload_n (q := 83) (i := 0) (x := a0) dX1_slip_82 rfl rfl rfl ?_
    obtain ⟨rc_21, g_22, hf⟩ := hf
    obtain ⟨rs_23, g_24, hf⟩ := hf
    obtain ⟨g_25, hf⟩ := hf
    refine z_cVi m_X1_turns [] (a0) (q := 86) (rc2 := rc_21) (rs2 := rs_23) (st := []) dX1_slip_83 rfl q1311 oV_X1_turns rfl rfl ⟨z_le rfl, z_le rfl⟩ (z_le rfl) (z_rcv_of 0 rfl (z_L0_T g_25) rfl) g_22  g_24 hf (fun x_26 h_27 hf => ?_)
    refine z_pop (q := 87) dX1_slip_86 rfl rfl ?_
    refine z_goto (q := 153) dX1_slip_87 rfl ?_
    refine z_iconst (q := 154) (v := 1) dX1_slip_153 rfl rfl ?_
    exact z_zret dX1_slip_154 rfl (z_nb01 z_b1) hf

theorem u_X1_table {l : Launch} {G : z_G} {mc ms : Nat} {a0 : Nat} {h : z_H} {Q : z_Q} (hst : l.stackTraces = false)  (hf : z_L0 h a0 ∧ z_Ct l G m_X1_reads [.ref a0] h (z_Qv (fun h_2 => z_L0 h_2 a0 ∧ ∃ mc_4, ∃ ms_5, ∃ rc_6, mc = rc_6 + mc_4 ∧ ∃ rs_8, ms = rs_8 + ms_5 ∧ z_Cz l G (m_X2_table mc_4 ms_5) [.ref (a0 + 2)] h_2 (z_Qr (fun b_10 h_11 => z_L0 h_11 a0 ∧ z_L0 (h_11.sP a0 4 (some b_10)) a0 ∧ ∃ b_14, (h_11.P a0 5) = some b_14 ∧ (h_11.T b_14).1 = 31 ∧ z_Ct l G m_J2_clear [.ref b_14] (h_11.sP a0 4 (some b_10)) (z_Qv (fun h_17 => z_L0 h_17 a0 ∧ z_Ct l G m_X1_begins [.ref a0] ((h_17.sI (a0 + 49) 1 0).sI (a0 + 51) 1 0) (z_Qv (fun h_19 => z_L0 h_19 a0 ∧ z_V l G (m_X1_table mc ms) (z_Fm G (m_X1_table mc ms) Q) rc_6 rs_8 (h_19.sI a0 12 0) 58 [some (.ref a0), some (.int 0)] [])))))) (fun C0 b_21 h_22 => C0 = "BeggarHeaps$Wrong" ∧ (h_22.T b_21).1 = 22 ∧ Q (some (.int (h_22.I b_21 6))) h_22)))) : z_Ct l G (m_X1_table mc ms) [.ref a0] h Q := by
  refine z_Ct.of (ls := [some (.ref a0), none]) hst rfl (by decide +kernel) (z_le rfl) rfl ?_
  show z_V l G (m_X1_table mc ms) (z_Fm G (m_X1_table mc ms) Q) mc ms h 0 [some (.ref a0), none] []
  refine z_aload_n (q := 1) (i := 0) (x := a0) dX1_table_0 rfl rfl rfl ?_
  obtain ⟨g_1, hf⟩ := hf
  refine z_cVv m_X1_reads [] (a0) (q := 4) (rc2 := mc) (rs2 := ms) (st := []) dX1_table_1 rfl q585 oV_X1_reads rfl rfl ⟨z_le rfl, z_le rfl⟩ (z_le rfl) (z_rcv_of 0 rfl (z_L0_T g_1) rfl) rfl  rfl hf (fun h_2 hf => ?_)
  refine z_aload_n (q := 5) (i := 0) (x := a0) dX1_table_4 rfl rfl rfl ?_
  refine z_aload_n (q := 6) (i := 0) (x := a0) dX1_table_5 rfl rfl rfl ?_
  obtain ⟨g_3, hf⟩ := hf
  refine z_get 0 1 (q := 9) (v := .ref (a0 + 2)) rfl (z_lt rfl) (z_L0_T g_3) q505 dX1_table_6 rfl (z_fvR (fun _ _ _ => rfl) (z_L0_P1 g_3)) ?_
  obtain ⟨mc_4, hf⟩ := hf
  obtain ⟨ms_5, hf⟩ := hf
  obtain ⟨rc_6, g_7, hf⟩ := hf
  obtain ⟨rs_8, g_9, hf⟩ := hf
  refine z_cXr (m_X2_table mc_4 ms_5) [] ((a0 + 2)) (q := 12) (rc2 := rc_6) (rs2 := rs_8) (st := [.ref a0]) dX1_table_9 rfl q694 oV_X2_table rfl rfl ⟨z_le rfl, z_le rfl⟩ (z_le rfl) (z_rcv_of 1 rfl (z_L0_N1 g_3) rfl) g_7  g_9 hf (fun C0 b_21 h_22 hX => ?_) (fun b_10 h_11 hf => ?_)
  · obtain ⟨rfl, hf⟩ := hX
    refine z_catch (name := "BeggarHeaps$Wrong") rfl (z_le rfl) (z_lt rfl) (by decide) q584 (Or.inl rfl) (z_nwm q733 rfl) ?_
    refine z_astore_n (q := 19) (i := 1) (ls2 := [some (.ref a0), some (.ref b_21)]) (x := b_21) dX1_table_18 rfl (z_lt rfl) rfl rfl ?_
    refine z_aload_n (q := 20) (i := 1) (x := b_21) dX1_table_19 rfl rfl rfl ?_
    obtain ⟨g_23, hf⟩ := hf
    refine z_getN 12 6 (q := 23) (v := .int (h_22.I b_21 6)) rfl (z_lt rfl) g_23 (z_nwm q784 rfl) dX1_table_20 rfl rfl ?_
    exact z_iret dX1_table_23 rfl hf
  · skip
    obtain ⟨g_12, hf⟩ := hf
    refine z_putP 0 4 (q := 15) (x := some b_10) (v := .ref b_10) rfl (z_lt rfl) (z_L0_T g_12) q510 rfl dX1_table_12 rfl rfl rfl rfl (fun _ _ _ => rfl) ?_
    refine z_goto (q := 24) dX1_table_15 rfl ?_
    refine z_aload_n (q := 25) (i := 0) (x := a0) dX1_table_24 rfl rfl rfl ?_
    obtain ⟨g_13, hf⟩ := hf
    obtain ⟨b_14, g_15, hf⟩ := hf
    refine z_get 0 5 (q := 28) (v := .ref b_14) rfl (z_lt rfl) (z_L0_T g_13) q511 dX1_table_25 rfl (z_fvR (fun _ _ _ => rfl) (Eq.trans (z_rPf (by decide)) g_15)) ?_
    obtain ⟨g_16, hf⟩ := hf
    refine z_cVv m_J2_clear [] (b_14) (q := 31) (rc2 := rc_6) (rs2 := rs_8) (st := []) dX1_table_28 rfl q1175 oV_J2_clear rfl rfl ⟨z_le rfl, z_le rfl⟩ (z_le rfl) (z_rcv_of 21 rfl g_16 rfl) rfl  rfl hf (fun h_17 hf => ?_)
    refine z_aload_n (q := 32) (i := 0) (x := a0) dX1_table_31 rfl rfl rfl ?_
    obtain ⟨g_18, hf⟩ := hf
    refine z_get 0 8 (q := 35) (v := .ref (a0 + 49)) rfl (z_lt rfl) (z_L0_T g_18) q514 dX1_table_32 rfl (z_fvR (fun _ _ _ => rfl) (z_L0_P8 g_18)) ?_
    refine z_iconst (q := 36) (v := 0) dX1_table_35 rfl rfl ?_
    refine z_putIN 10 1 (q := 39) (x := 0) (v := .int 0) rfl (z_lt rfl) (z_L10_T (z_L0_N8 g_18)) (z_nwm q486 rfl) rfl dX1_table_36 rfl rfl rfl rfl (fun _ _ _ => rfl) ?_
    refine z_aload_n (q := 40) (i := 0) (x := a0) dX1_table_39 rfl rfl rfl ?_
    refine z_get 0 9 (q := 43) (v := .ref (a0 + 51)) rfl (z_lt rfl) (z_L0_T g_18) q515 dX1_table_40 rfl (z_fvR (fun _ _ _ => rfl) (z_L0_P9 g_18)) ?_
    refine z_iconst (q := 44) (v := 0) dX1_table_43 rfl rfl ?_
    refine z_putIN 10 1 (q := 47) (x := 0) (v := .int 0) rfl (z_lt rfl) (z_L10_T (z_L0_N9 g_18)) (z_nwm q486 rfl) rfl dX1_table_44 rfl rfl rfl rfl (fun _ _ _ => rfl) ?_
    refine z_aload_n (q := 48) (i := 0) (x := a0) dX1_table_47 rfl rfl rfl ?_
    refine z_cVv m_X1_begins [] (a0) (q := 51) (rc2 := rc_6) (rs2 := rs_8) (st := []) dX1_table_48 rfl q1176 oV_X1_begins rfl rfl ⟨z_le rfl, z_le rfl⟩ (z_le rfl) (z_rcv_of 0 rfl (z_L0_T g_18) rfl) rfl  rfl hf (fun h_19 hf => ?_)
    refine z_aload_n (q := 52) (i := 0) (x := a0) dX1_table_51 rfl rfl rfl ?_
    refine z_iconst (q := 53) (v := 0) dX1_table_52 rfl rfl ?_
    obtain ⟨g_20, hf⟩ := hf
    refine z_putI 0 12 (q := 56) (x := 0) (v := .int 0) rfl (z_lt rfl) (z_L0_T g_20) q518 rfl dX1_table_53 rfl rfl rfl rfl (fun _ _ _ => rfl) ?_
    refine z_iconst (q := 57) (v := 0) dX1_table_56 rfl rfl ?_
    refine z_istore_n (q := 58) (i := 1) (ls2 := [some (.ref a0), some (.int 0)]) (x := 0) dX1_table_57 rfl (z_lt rfl) rfl rfl ?_
    exact hf

theorem b_X1_table_58 {l : Launch} {G : z_G} {mc ms : Nat} {rc rs : Nat} {a0 : Nat} {x1 : Int32} {h : z_H} {Q : z_Q}  (hf : (4 ≤ x1 → Q (some (.int 0)) h) ∧ (¬ 4 ≤ x1 → z_L0 h a0 ∧ vp_in x1 4 ∧ z_V l G (m_X1_table mc ms) (z_Fm G (m_X1_table mc ms) Q) rc rs (h.sP (a0 + 59) (Int32.toNatClampNeg x1) none) 58 [some (.ref a0), some (.int (x1 + 1))] [])) : z_V l G (m_X1_table mc ms) (z_Fm G (m_X1_table mc ms) Q) rc rs h 58 [some (.ref a0), some (.int x1)] [] := by
  refine z_iload_n (q := 59) (i := 1) (x := x1) dX1_table_58 rfl rfl rfl ?_
  refine z_iconst (q := 60) (v := 4) dX1_table_59 rfl rfl ?_
  refine z_icmp_ge (q := 63) (tgt := 76) dX1_table_60 rfl rfl (fun hc => ?_) (fun hc => ?_)
  · have hf := hf.1 hc
    refine z_iconst (q := 77) (v := 0) dX1_table_76 rfl rfl ?_
    exact z_iret dX1_table_77 rfl hf
  · have hf := hf.2 hc
    refine z_aload_n (q := 64) (i := 0) (x := a0) dX1_table_63 rfl rfl rfl ?_
    obtain ⟨g_1, hf⟩ := hf
    refine z_get 0 22 (q := 67) (v := .ref (a0 + 59)) rfl (z_lt rfl) (z_L0_T g_1) q528 dX1_table_64 rfl (z_fvR (fun _ _ _ => rfl) (z_L0_P22 g_1)) ?_
    refine z_iload_n (q := 68) (i := 1) (x := x1) dX1_table_67 rfl rfl rfl ?_
    refine z_null (q := 69) dX1_table_68 rfl ?_
    obtain ⟨g_2, hf⟩ := hf
    refine z_aastN (q := 70) (n := 4) (z_L0_A22 g_1) (by decide) g_2 dX1_table_69 rfl ?_
    refine z_iinc (q := 73) (i := 1) (x := x1) (v := (x1 + 1)) (ls2 := [some (.ref a0), some (.int (x1 + 1))]) dX1_table_70 rfl rfl (z_lt rfl) rfl rfl ?_
    refine z_goto (q := 58) dX1_table_73 rfl ?_
    exact hf

theorem u_X1_take {l : Launch} {G : z_G} {a0 : Nat} {x1 : Int32} {h : z_H} {Q : z_Q} (hst : l.stackTraces = false)  (hf : z_Ct l G m_X1_isSide [.int x1] h (z_Qi (fun x_1 h_2 => (x_1 = 0 → Q (some (.int (-1))) h_2) ∧ (¬ x_1 = 0 → z_L0 h_2 a0 ∧ z_Ct l G m_X1_goesThrough [.ref a0] h_2 (z_Qi (fun x_4 h_5 => (x_4 = 0 → Q (some (.int (-1))) h_5) ∧ (¬ x_4 = 0 → z_L0 h_5 a0 ∧ vp_in 0 4 ∧ vp_in 1 4 ∧ vp_in 2 4 ∧ vp_in 3 4 ∧ vp_in x1 4 ∧ ∀ v_12 : Int32, v_12 = (((((h_5.I (a0 + 56) (Int32.toNatClampNeg 0)) + (h_5.I (a0 + 56) (Int32.toNatClampNeg 1))) + (h_5.I (a0 + 56) (Int32.toNatClampNeg 2))) + (h_5.I (a0 + 56) (Int32.toNatClampNeg 3))) - (h_5.I (a0 + 56) (Int32.toNatClampNeg x1))) → vp_in x1 4 ∧ z_Ct l G m_X1_offer [.ref a0] h_5 (z_Qi (fun x_15 h_16 => Q (some (.int (if ((h_5.I (a0 + 56) (Int32.toNatClampNeg x1)) * x_15) ≤ (v_12 * 10) then 0 else 1))) h_16))))))))) : z_Ct l G m_X1_take [.ref a0, .int x1] h Q := by
  refine z_Ct.of (ls := [some (.ref a0), some (.int x1), none]) hst rfl (by decide +kernel) (z_le rfl) rfl ?_
  show z_V l G m_X1_take (z_Fm G m_X1_take Q) 1 8 h 0 [some (.ref a0), some (.int x1), none] []
  refine z_iload_n (q := 1) (i := 1) (x := x1) dX1_take_0 rfl rfl rfl ?_
  refine z_cSi m_X1_isSide [.int x1] (q := 4) (rc2 := 1) (rs2 := 8) (st := []) dX1_take_1 rfl q1274 oS_X1_isSide rfl rfl ⟨z_le rfl, z_le rfl⟩ (z_le rfl) rfl  rfl hf (fun x_1 h_2 hf => ?_)
  refine z_if_eq (q := 7) (tgt := 14) dX1_take_4 rfl rfl (fun hc => ?_) (fun hc => ?_)
  · have hf := hf.1 hc
    refine z_iconst (q := 15) (v := (-1)) dX1_take_14 rfl rfl ?_
    exact z_iret dX1_take_15 rfl hf
  · have hf := hf.2 hc
    refine z_aload_n (q := 8) (i := 0) (x := a0) dX1_take_7 rfl rfl rfl ?_
    obtain ⟨g_3, hf⟩ := hf
    refine z_cVi m_X1_goesThrough [] (a0) (q := 11) (rc2 := 0) (rs2 := 0) (st := []) dX1_take_8 rfl q1523 oV_X1_goesThrough rfl rfl ⟨z_le rfl, z_le rfl⟩ (z_le rfl) (z_rcv_of 0 rfl (z_L0_T g_3) rfl) rfl  rfl hf (fun x_4 h_5 hf => ?_)
    refine z_if_ne (q := 14) (tgt := 16) dX1_take_11 rfl rfl (fun hc => ?_) (fun hc => ?_)
    · have hf := hf.2 hc
      refine z_aload_n (q := 17) (i := 0) (x := a0) dX1_take_16 rfl rfl rfl ?_
      obtain ⟨g_6, hf⟩ := hf
      refine z_get 0 17 (q := 20) (v := .ref (a0 + 56)) rfl (z_lt rfl) (z_L0_T g_6) q523 dX1_take_17 rfl (z_fvR (fun _ _ _ => rfl) (z_L0_P17 g_6)) ?_
      refine z_iconst (q := 21) (v := 0) dX1_take_20 rfl rfl ?_
      obtain ⟨g_7, hf⟩ := hf
      refine z_iald (q := 22) (n := 4) (z_L0_A17 g_6) g_7 dX1_take_21 rfl ?_
      refine z_aload_n (q := 23) (i := 0) (x := a0) dX1_take_22 rfl rfl rfl ?_
      refine z_get 0 17 (q := 26) (v := .ref (a0 + 56)) rfl (z_lt rfl) (z_L0_T g_6) q523 dX1_take_23 rfl (z_fvR (fun _ _ _ => rfl) (z_L0_P17 g_6)) ?_
      refine z_iconst (q := 27) (v := 1) dX1_take_26 rfl rfl ?_
      obtain ⟨g_8, hf⟩ := hf
      refine z_iald (q := 28) (n := 4) (z_L0_A17 g_6) g_8 dX1_take_27 rfl ?_
      refine z_iadd (q := 29) dX1_take_28 rfl ?_
      refine z_aload_n (q := 30) (i := 0) (x := a0) dX1_take_29 rfl rfl rfl ?_
      refine z_get 0 17 (q := 33) (v := .ref (a0 + 56)) rfl (z_lt rfl) (z_L0_T g_6) q523 dX1_take_30 rfl (z_fvR (fun _ _ _ => rfl) (z_L0_P17 g_6)) ?_
      refine z_iconst (q := 34) (v := 2) dX1_take_33 rfl rfl ?_
      obtain ⟨g_9, hf⟩ := hf
      refine z_iald (q := 35) (n := 4) (z_L0_A17 g_6) g_9 dX1_take_34 rfl ?_
      refine z_iadd (q := 36) dX1_take_35 rfl ?_
      refine z_aload_n (q := 37) (i := 0) (x := a0) dX1_take_36 rfl rfl rfl ?_
      refine z_get 0 17 (q := 40) (v := .ref (a0 + 56)) rfl (z_lt rfl) (z_L0_T g_6) q523 dX1_take_37 rfl (z_fvR (fun _ _ _ => rfl) (z_L0_P17 g_6)) ?_
      refine z_iconst (q := 41) (v := 3) dX1_take_40 rfl rfl ?_
      obtain ⟨g_10, hf⟩ := hf
      refine z_iald (q := 42) (n := 4) (z_L0_A17 g_6) g_10 dX1_take_41 rfl ?_
      refine z_iadd (q := 43) dX1_take_42 rfl ?_
      refine z_aload_n (q := 44) (i := 0) (x := a0) dX1_take_43 rfl rfl rfl ?_
      refine z_get 0 17 (q := 47) (v := .ref (a0 + 56)) rfl (z_lt rfl) (z_L0_T g_6) q523 dX1_take_44 rfl (z_fvR (fun _ _ _ => rfl) (z_L0_P17 g_6)) ?_
      refine z_iload_n (q := 48) (i := 1) (x := x1) dX1_take_47 rfl rfl rfl ?_
      obtain ⟨g_11, hf⟩ := hf
      refine z_iald (q := 49) (n := 4) (z_L0_A17 g_6) g_11 dX1_take_48 rfl ?_
      refine z_isub (q := 50) dX1_take_49 rfl ?_
      refine z_nmI (fun v_12 hv_13 => ?_)
      have hf := hf v_12 hv_13
      refine z_istore_n (q := 51) (i := 2) (ls2 := [some (.ref a0), some (.int x1), some (.int v_12)]) (x := v_12) dX1_take_50 rfl (z_lt rfl) rfl rfl ?_
      refine z_aload_n (q := 52) (i := 0) (x := a0) dX1_take_51 rfl rfl rfl ?_
      refine z_get 0 17 (q := 55) (v := .ref (a0 + 56)) rfl (z_lt rfl) (z_L0_T g_6) q523 dX1_take_52 rfl (z_fvR (fun _ _ _ => rfl) (z_L0_P17 g_6)) ?_
      refine z_iload_n (q := 56) (i := 1) (x := x1) dX1_take_55 rfl rfl rfl ?_
      obtain ⟨g_14, hf⟩ := hf
      refine z_iald (q := 57) (n := 4) (z_L0_A17 g_6) g_14 dX1_take_56 rfl ?_
      refine z_aload_n (q := 58) (i := 0) (x := a0) dX1_take_57 rfl rfl rfl ?_
      refine z_cVi m_X1_offer [] (a0) (q := 61) (rc2 := 0) (rs2 := 0) (st := [.int (h_5.I (a0 + 56) (Int32.toNatClampNeg x1))]) dX1_take_58 rfl q1555 oV_X1_offer rfl rfl ⟨z_le rfl, z_le rfl⟩ (z_le rfl) (z_rcv_of 0 rfl (z_L0_T g_6) rfl) rfl  rfl hf (fun x_15 h_16 hf => ?_)
      refine z_imul (q := 62) dX1_take_61 rfl ?_
      refine z_iload_n (q := 63) (i := 2) (x := v_12) dX1_take_62 rfl rfl rfl ?_
      refine z_bipush (q := 65) (v := 10) dX1_take_63 (by decide) rfl ?_
      refine z_imul (q := 66) dX1_take_65 rfl ?_
      have hk : z_V l G m_X1_take (z_Fm G m_X1_take Q) 0 0 h_16 74 [some (.ref a0), some (.int x1), some (.int v_12)] [.int (if ((h_5.I (a0 + 56) (Int32.toNatClampNeg x1)) * x_15) ≤ (v_12 * 10) then 0 else 1)] := by
        exact z_iret dX1_take_74 rfl hf
      refine z_icmp_le (q := 69) (tgt := 73) dX1_take_66 rfl rfl (fun hc => ?_) (fun hc => ?_)
      · have hk := (z_ite hk).1 hc
        refine z_iconst (q := 74) (v := 0) dX1_take_73 rfl rfl ?_
        exact hk
      · have hk := (z_ite hk).2 hc
        refine z_iconst (q := 70) (v := 1) dX1_take_69 rfl rfl ?_
        refine z_goto (q := 74) dX1_take_70 rfl ?_
        exact hk
    · have hf := hf.1 hc
      refine z_iconst (q := 15) (v := (-1)) dX1_take_14 rfl rfl ?_
      exact z_iret dX1_take_15 rfl hf

theorem u_X1_taken {l : Launch} {G : z_G} {a0 : Nat} {x1 : Int32} {x2 : Int32} {h : z_H} {Q : z_Q} (hst : l.stackTraces = false)  (hf : z_L0 h a0 ∧ z_Ct l G m_J2_size [.ref (a0 + 30)] h (z_Qi (fun x_2 h_3 => z_Ct l G m_X1_in [.int x1, .int 0, .int (x_2 - 1)] h_3 (z_Qi (fun x_4 h_5 => (x_4 = 0 → Q (some (.int (-1))) h_5) ∧ (¬ x_4 = 0 → z_Ct l G m_X1_in [.int x2, .int 0, .int 3] h_5 (z_Qi (fun x_6 h_7 => (x_6 = 0 → Q (some (.int (-1))) h_7) ∧ (¬ x_6 = 0 → z_L0 h_7 a0 ∧ z_Ct l G m_J2_get [.ref (a0 + 30), .int ((x_2 - 1) - x1)] h_7 (z_Qr (fun b_9 h_10 => (h_10.T b_9).1 = 28 ∧ Q (some (.int (if x2 = 0 then (h_10.I b_9 0) else (if x2 = 1 then (h_10.I b_9 1) else (if x2 = 2 then (h_10.I b_9 2) else (h_10.I b_9 3)))))) h_10))))))))))) : z_Ct l G m_X1_taken [.ref a0, .int x1, .int x2] h Q := by
  refine z_Ct.of (ls := [some (.ref a0), some (.int x1), some (.int x2), none, none]) hst rfl (by decide +kernel) (z_le rfl) rfl ?_
  show z_V l G m_X1_taken (z_Fm G m_X1_taken Q) 0 0 h 0 [some (.ref a0), some (.int x1), some (.int x2), none, none] []
  refine z_aload_n (q := 1) (i := 0) (x := a0) dX1_taken_0 rfl rfl rfl ?_
  obtain ⟨g_1, hf⟩ := hf
  refine z_get 0 6 (q := 4) (v := .ref (a0 + 23)) rfl (z_lt rfl) (z_L0_T g_1) q512 dX1_taken_1 rfl (z_fvR (fun _ _ _ => rfl) (z_L0_P6 g_1)) ?_
  refine z_getN 9 17 (q := 7) (v := .ref (a0 + 30)) rfl (z_lt rfl) (z_L9_T (z_L0_N6 g_1)) (z_nwm q414 rfl) dX1_taken_4 rfl (z_fvR (fun _ _ _ => rfl) (z_L9_P17 (z_L0_N6 g_1))) ?_
  refine z_cVi m_J2_size [] ((a0 + 30)) (q := 10) (rc2 := 0) (rs2 := 0) (st := []) dX1_taken_7 rfl q1258 oV_J2_size rfl rfl ⟨z_le rfl, z_le rfl⟩ (z_le rfl) (z_rcv_of 21 rfl (z_L9_N17 (z_L0_N6 g_1)) rfl) rfl  rfl hf (fun x_2 h_3 hf => ?_)
  refine z_istore_n (q := 11) (i := 3) (ls2 := [some (.ref a0), some (.int x1), some (.int x2), some (.int x_2), none]) (x := x_2) dX1_taken_10 rfl (z_lt rfl) rfl rfl ?_
  refine z_iload_n (q := 12) (i := 1) (x := x1) dX1_taken_11 rfl rfl rfl ?_
  refine z_iconst (q := 13) (v := 0) dX1_taken_12 rfl rfl ?_
  refine z_iload_n (q := 14) (i := 3) (x := x_2) dX1_taken_13 rfl rfl rfl ?_
  refine z_iconst (q := 15) (v := 1) dX1_taken_14 rfl rfl ?_
  refine z_isub (q := 16) dX1_taken_15 rfl ?_
  refine z_cSi m_X1_in [.int x1, .int 0, .int (x_2 - 1)] (q := 19) (rc2 := 0) (rs2 := 0) (st := []) dX1_taken_16 rfl q1259 oS_X1_in rfl rfl ⟨z_le rfl, z_le rfl⟩ (z_le rfl) rfl  rfl hf (fun x_4 h_5 hf => ?_)
  refine z_if_eq (q := 22) (tgt := 31) dX1_taken_19 rfl rfl (fun hc => ?_) (fun hc => ?_)
  · have hf := hf.1 hc
    refine z_iconst (q := 32) (v := (-1)) dX1_taken_31 rfl rfl ?_
    exact z_iret dX1_taken_32 rfl hf
  · have hf := hf.2 hc
    refine z_iload_n (q := 23) (i := 2) (x := x2) dX1_taken_22 rfl rfl rfl ?_
    refine z_iconst (q := 24) (v := 0) dX1_taken_23 rfl rfl ?_
    refine z_iconst (q := 25) (v := 3) dX1_taken_24 rfl rfl ?_
    refine z_cSi m_X1_in [.int x2, .int 0, .int 3] (q := 28) (rc2 := 0) (rs2 := 0) (st := []) dX1_taken_25 rfl q1259 oS_X1_in rfl rfl ⟨z_le rfl, z_le rfl⟩ (z_le rfl) rfl  rfl hf (fun x_6 h_7 hf => ?_)
    refine z_if_ne (q := 31) (tgt := 33) dX1_taken_28 rfl rfl (fun hc => ?_) (fun hc => ?_)
    · have hf := hf.2 hc
      refine z_aload_n (q := 34) (i := 0) (x := a0) dX1_taken_33 rfl rfl rfl ?_
      obtain ⟨g_8, hf⟩ := hf
      refine z_get 0 6 (q := 37) (v := .ref (a0 + 23)) rfl (z_lt rfl) (z_L0_T g_8) q512 dX1_taken_34 rfl (z_fvR (fun _ _ _ => rfl) (z_L0_P6 g_8)) ?_
      refine z_getN 9 17 (q := 40) (v := .ref (a0 + 30)) rfl (z_lt rfl) (z_L9_T (z_L0_N6 g_8)) (z_nwm q414 rfl) dX1_taken_37 rfl (z_fvR (fun _ _ _ => rfl) (z_L9_P17 (z_L0_N6 g_8))) ?_
      refine z_iload_n (q := 41) (i := 3) (x := x_2) dX1_taken_40 rfl rfl rfl ?_
      refine z_iconst (q := 42) (v := 1) dX1_taken_41 rfl rfl ?_
      refine z_isub (q := 43) dX1_taken_42 rfl ?_
      refine z_iload_n (q := 44) (i := 1) (x := x1) dX1_taken_43 rfl rfl rfl ?_
      refine z_isub (q := 45) dX1_taken_44 rfl ?_
      refine z_cVr m_J2_get [.int ((x_2 - 1) - x1)] ((a0 + 30)) (q := 48) (rc2 := 0) (rs2 := 0) (st := []) dX1_taken_45 rfl q1285 oV_J2_get rfl rfl ⟨z_le rfl, z_le rfl⟩ (z_le rfl) (z_rcv_of 21 rfl (z_L9_N17 (z_L0_N6 g_8)) rfl) rfl  rfl hf (fun b_9 h_10 hf => ?_)
      obtain ⟨g_11, hf⟩ := hf
      refine z_cast (C0 := "BeggarHeaps$Heap") (nm := "BeggarHeaps$Heap") (z_rcv_of 18 rfl g_11 rfl) (Or.inl rfl) q1286 dX1_taken_48 rfl ?_
      refine z_astore (q := 53) (i := 4) (ls2 := [some (.ref a0), some (.int x1), some (.int x2), some (.int x_2), some (.ref b_9)]) (x := b_9) dX1_taken_51 (z_lt rfl) rfl rfl ?_
      refine z_iload_n (q := 54) (i := 2) (x := x2) dX1_taken_53 rfl rfl rfl ?_
      have hk : z_V l G m_X1_taken (z_Fm G m_X1_taken Q) 0 0 h_10 96 [some (.ref a0), some (.int x1), some (.int x2), some (.int x_2), some (.ref b_9)] [.int (if x2 = 0 then (h_10.I b_9 0) else (if x2 = 1 then (h_10.I b_9 1) else (if x2 = 2 then (h_10.I b_9 2) else (h_10.I b_9 3))))] := by
        exact z_iret dX1_taken_96 rfl hf
      refine z_if_ne (q := 57) (tgt := 65) dX1_taken_54 rfl rfl (fun hc => ?_) (fun hc => ?_)
      · have hk := (z_ite hk).2 hc
        refine z_iload_n (q := 66) (i := 2) (x := x2) dX1_taken_65 rfl rfl rfl ?_
        refine z_iconst (q := 67) (v := 1) dX1_taken_66 rfl rfl ?_
        refine z_icmp_ne (q := 70) (tgt := 78) dX1_taken_67 rfl rfl (fun hc => ?_) (fun hc => ?_)
        · have hk := (z_ite hk).2 hc
          refine z_iload_n (q := 79) (i := 2) (x := x2) dX1_taken_78 rfl rfl rfl ?_
          refine z_iconst (q := 80) (v := 2) dX1_taken_79 rfl rfl ?_
          refine z_icmp_ne (q := 83) (tgt := 91) dX1_taken_80 rfl rfl (fun hc => ?_) (fun hc => ?_)
          · have hk := (z_ite hk).2 hc
            refine z_aload (q := 93) (i := 4) (x := b_9) dX1_taken_91 rfl rfl ?_
            refine z_getN 18 3 (q := 96) (v := .int (h_10.I b_9 3)) rfl (z_lt rfl) g_11 (z_nwm q1353 rfl) dX1_taken_93 rfl rfl ?_
            exact hk
          · have hk := (z_ite hk).1 hc
            refine z_aload (q := 85) (i := 4) (x := b_9) dX1_taken_83 rfl rfl ?_
            refine z_getN 18 2 (q := 88) (v := .int (h_10.I b_9 2)) rfl (z_lt rfl) g_11 (z_nwm q1351 rfl) dX1_taken_85 rfl rfl ?_
            refine z_goto (q := 96) dX1_taken_88 rfl ?_
            exact hk
        · have hk := (z_ite hk).1 hc
          refine z_aload (q := 72) (i := 4) (x := b_9) dX1_taken_70 rfl rfl ?_
          refine z_getN 18 1 (q := 75) (v := .int (h_10.I b_9 1)) rfl (z_lt rfl) g_11 (z_nwm q1349 rfl) dX1_taken_72 rfl rfl ?_
          refine z_goto (q := 96) dX1_taken_75 rfl ?_
          exact hk
      · have hk := (z_ite hk).1 hc
        refine z_aload (q := 59) (i := 4) (x := b_9) dX1_taken_57 rfl rfl ?_
        refine z_getN 18 0 (q := 62) (v := .int (h_10.I b_9 0)) rfl (z_lt rfl) g_11 (z_nwm q1347 rfl) dX1_taken_59 rfl rfl ?_
        refine z_goto (q := 96) dX1_taken_62 rfl ?_
        exact hk
    · have hf := hf.1 hc
      refine z_iconst (q := 32) (v := (-1)) dX1_taken_31 rfl rfl ?_
      exact z_iret dX1_taken_32 rfl hf

theorem u_X1_taking {l : Launch} {G : z_G} {a0 : Nat} {h : z_H} {Q : z_Q} (hst : l.stackTraces = false)  (hf : z_V l G m_X1_taking (z_Fm G m_X1_taking Q) 2 68 h 4 [some (.ref a0), some (.int 0), some (.int 0)] []) : z_Ct l G m_X1_taking [.ref a0] h Q := by
  refine z_Ct.of (ls := [some (.ref a0), none, none]) hst rfl (by decide +kernel) (z_le rfl) rfl ?_
  show z_V l G m_X1_taking (z_Fm G m_X1_taking Q) 2 68 h 0 [some (.ref a0), none, none] []
  refine z_iconst (q := 1) (v := 0) dX1_taking_0 rfl rfl ?_
  refine z_istore_n (q := 2) (i := 1) (ls2 := [some (.ref a0), some (.int 0), none]) (x := 0) dX1_taking_1 rfl (z_lt rfl) rfl rfl ?_
  refine z_iconst (q := 3) (v := 0) dX1_taking_2 rfl rfl ?_
  refine z_istore_n (q := 4) (i := 2) (ls2 := [some (.ref a0), some (.int 0), some (.int 0)]) (x := 0) dX1_taking_3 rfl (z_lt rfl) rfl rfl ?_
  exact hf

theorem b_X1_taking_4 {l : Launch} {G : z_G} {rc rs : Nat} {a0 : Nat} {x1 : Int32} {x2 : Int32} {h : z_H} {Q : z_Q}  (hf : z_L0 h a0 ∧ ((h.I (a0 + 23) 8) ≤ x2 → z_Ct l G m_J2_size [.ref (a0 + 30)] ((h.sI (a0 + 23) 21 (h.I (a0 + 23) 8)).sI (a0 + 23) 22 0) (z_Qi (fun x_2 h_3 => (x_2 = 40 → z_L0 h_3 a0 ∧ z_Ct l G m_J2_remove [.ref (a0 + 30), .int 0] h_3 (z_Qr (fun b_5 h_6 => z_V l G m_X1_taking (z_Fm G m_X1_taking Q) rc rs h_6 111 [some (.ref a0), some (.int x1), none] []))) ∧ (¬ x_2 = 40 → z_V l G m_X1_taking (z_Fm G m_X1_taking Q) rc rs h_3 111 [some (.ref a0), some (.int x1), none] [])))) ∧ (¬ (h.I (a0 + 23) 8) ≤ x2 → vp_in x2 48 ∧ vp_in x2 48 ∧ ∃ b_9, (h.P a0 4) = some b_9 ∧ z_L8 h b_9 ∧ vp_in x2 48 ∧ vp_in (h.I (a0 + 26) (Int32.toNatClampNeg x2)) 8 ∧ (((h.sI (a0 + 34) (Int32.toNatClampNeg x2) (h.I (a0 + 26) (Int32.toNatClampNeg x2))).I (b_9 + 3) (Int32.toNatClampNeg (h.I (a0 + 26) (Int32.toNatClampNeg x2)))) ≤ 0 → z_V l G m_X1_taking (z_Fm G m_X1_taking Q) rc rs (h.sI (a0 + 34) (Int32.toNatClampNeg x2) (h.I (a0 + 26) (Int32.toNatClampNeg x2))) 4 [some (.ref a0), some (.int x1), some (.int (x2 + 1))] []) ∧ (¬ ((h.sI (a0 + 34) (Int32.toNatClampNeg x2) (h.I (a0 + 26) (Int32.toNatClampNeg x2))).I (b_9 + 3) (Int32.toNatClampNeg (h.I (a0 + 26) (Int32.toNatClampNeg x2)))) ≤ 0 → z_V l G m_X1_taking (z_Fm G m_X1_taking Q) rc rs (h.sI (a0 + 34) (Int32.toNatClampNeg x2) (h.I (a0 + 26) (Int32.toNatClampNeg x2))) 4 [some (.ref a0), some (.int (x1 + 1)), some (.int (x2 + 1))] []))) : z_V l G m_X1_taking (z_Fm G m_X1_taking Q) rc rs h 4 [some (.ref a0), some (.int x1), some (.int x2)] [] := by
  refine z_iload_n (q := 5) (i := 2) (x := x2) dX1_taking_4 rfl rfl rfl ?_
  refine z_aload_n (q := 6) (i := 0) (x := a0) dX1_taking_5 rfl rfl rfl ?_
  obtain ⟨g_1, hf⟩ := hf
  refine z_get 0 6 (q := 9) (v := .ref (a0 + 23)) rfl (z_lt rfl) (z_L0_T g_1) q512 dX1_taking_6 rfl (z_fvR (fun _ _ _ => rfl) (z_L0_P6 g_1)) ?_
  refine z_getN 9 8 (q := 12) (v := .int (h.I (a0 + 23) 8)) rfl (z_lt rfl) (z_L9_T (z_L0_N6 g_1)) (z_nwm q392 rfl) dX1_taking_9 rfl rfl ?_
  refine z_icmp_ge (q := 15) (tgt := 62) dX1_taking_12 rfl rfl (fun hc => ?_) (fun hc => ?_)
  · have hf := hf.1 hc
    refine z_aload_n (q := 63) (i := 0) (x := a0) dX1_taking_62 rfl rfl rfl ?_
    refine z_get 0 6 (q := 66) (v := .ref (a0 + 23)) rfl (z_lt rfl) (z_L0_T g_1) q512 dX1_taking_63 rfl (z_fvR (fun _ _ _ => rfl) (z_L0_P6 g_1)) ?_
    refine z_aload_n (q := 67) (i := 0) (x := a0) dX1_taking_66 rfl rfl rfl ?_
    refine z_get 0 6 (q := 70) (v := .ref (a0 + 23)) rfl (z_lt rfl) (z_L0_T g_1) q512 dX1_taking_67 rfl (z_fvR (fun _ _ _ => rfl) (z_L0_P6 g_1)) ?_
    refine z_getN 9 8 (q := 73) (v := .int (h.I (a0 + 23) 8)) rfl (z_lt rfl) (z_L9_T (z_L0_N6 g_1)) (z_nwm q392 rfl) dX1_taking_70 rfl rfl ?_
    refine z_putIN 9 21 (q := 76) (x := (h.I (a0 + 23) 8)) (v := .int (h.I (a0 + 23) 8)) rfl (z_lt rfl) (z_L9_T (z_L0_N6 g_1)) (z_nwm q422 rfl) rfl dX1_taking_73 rfl rfl rfl rfl (fun _ _ _ => rfl) ?_
    refine z_aload_n (q := 77) (i := 0) (x := a0) dX1_taking_76 rfl rfl rfl ?_
    refine z_get 0 6 (q := 80) (v := .ref (a0 + 23)) rfl (z_lt rfl) (z_L0_T g_1) q512 dX1_taking_77 rfl (z_fvR (fun _ _ _ => rfl) (z_L0_P6 g_1)) ?_
    refine z_iconst (q := 81) (v := 0) dX1_taking_80 rfl rfl ?_
    refine z_putIN 9 22 (q := 84) (x := 0) (v := .int 0) rfl (z_lt rfl) (z_L9_T (z_L0_N6 g_1)) (z_nwm q424 rfl) rfl dX1_taking_81 rfl rfl rfl rfl (fun _ _ _ => rfl) ?_
    refine z_aload_n (q := 85) (i := 0) (x := a0) dX1_taking_84 rfl rfl rfl ?_
    refine z_get 0 6 (q := 88) (v := .ref (a0 + 23)) rfl (z_lt rfl) (z_L0_T g_1) q512 dX1_taking_85 rfl (z_fvR (fun _ _ _ => rfl) (z_L0_P6 g_1)) ?_
    refine z_getN 9 17 (q := 91) (v := .ref (a0 + 30)) rfl (z_lt rfl) (z_L9_T (z_L0_N6 g_1)) (z_nwm q414 rfl) dX1_taking_88 rfl (z_fvR (fun _ _ _ => rfl) (z_L9_P17 (z_L0_N6 g_1))) ?_
    refine z_cVi m_J2_size [] ((a0 + 30)) (q := 94) (rc2 := rc) (rs2 := rs) (st := []) dX1_taking_91 rfl q1258 oV_J2_size rfl rfl ⟨z_le rfl, z_le rfl⟩ (z_le rfl) (z_rcv_of 21 rfl (z_L9_N17 (z_L0_N6 g_1)) rfl) rfl  rfl hf (fun x_2 h_3 hf => ?_)
    refine z_bipush (q := 96) (v := 40) dX1_taking_94 (by decide) rfl ?_
    refine z_icmp_ne (q := 99) (tgt := 111) dX1_taking_96 rfl rfl (fun hc => ?_) (fun hc => ?_)
    · have hf := hf.2 hc
      refine z_prune [true, true, false] (ls2 := [some (.ref a0), some (.int x1), none]) rfl ?_
      exact hf
    · have hf := hf.1 hc
      refine z_aload_n (q := 100) (i := 0) (x := a0) dX1_taking_99 rfl rfl rfl ?_
      obtain ⟨g_4, hf⟩ := hf
      refine z_get 0 6 (q := 103) (v := .ref (a0 + 23)) rfl (z_lt rfl) (z_L0_T g_4) q512 dX1_taking_100 rfl (z_fvR (fun _ _ _ => rfl) (z_L0_P6 g_4)) ?_
      refine z_getN 9 17 (q := 106) (v := .ref (a0 + 30)) rfl (z_lt rfl) (z_L9_T (z_L0_N6 g_4)) (z_nwm q414 rfl) dX1_taking_103 rfl (z_fvR (fun _ _ _ => rfl) (z_L9_P17 (z_L0_N6 g_4))) ?_
      refine z_iconst (q := 107) (v := 0) dX1_taking_106 rfl rfl ?_
      refine z_cVr m_J2_remove [.int 0] ((a0 + 30)) (q := 110) (rc2 := rc) (rs2 := rs) (st := []) dX1_taking_107 rfl q1332 oV_J2_remove rfl rfl ⟨z_le rfl, z_le rfl⟩ (z_le rfl) (z_rcv_of 21 rfl (z_L9_N17 (z_L0_N6 g_4)) rfl) rfl  rfl hf (fun b_5 h_6 hf => ?_)
      refine z_pop (q := 111) dX1_taking_110 rfl rfl ?_
      refine z_prune [true, true, false] (ls2 := [some (.ref a0), some (.int x1), none]) rfl ?_
      exact hf
  · have hf := hf.2 hc
    refine z_aload_n (q := 16) (i := 0) (x := a0) dX1_taking_15 rfl rfl rfl ?_
    refine z_get 0 6 (q := 19) (v := .ref (a0 + 23)) rfl (z_lt rfl) (z_L0_T g_1) q512 dX1_taking_16 rfl (z_fvR (fun _ _ _ => rfl) (z_L0_P6 g_1)) ?_
    refine z_getN 9 19 (q := 22) (v := .ref (a0 + 34)) rfl (z_lt rfl) (z_L9_T (z_L0_N6 g_1)) (z_nwm q418 rfl) dX1_taking_19 rfl (z_fvR (fun _ _ _ => rfl) (z_L9_P19 (z_L0_N6 g_1))) ?_
    refine z_iload_n (q := 23) (i := 2) (x := x2) dX1_taking_22 rfl rfl rfl ?_
    refine z_aload_n (q := 24) (i := 0) (x := a0) dX1_taking_23 rfl rfl rfl ?_
    refine z_get 0 6 (q := 27) (v := .ref (a0 + 23)) rfl (z_lt rfl) (z_L0_T g_1) q512 dX1_taking_24 rfl (z_fvR (fun _ _ _ => rfl) (z_L0_P6 g_1)) ?_
    refine z_getN 9 2 (q := 30) (v := .ref (a0 + 26)) rfl (z_lt rfl) (z_L9_T (z_L0_N6 g_1)) (z_nwm q379 rfl) dX1_taking_27 rfl (z_fvR (fun _ _ _ => rfl) (z_L9_P2 (z_L0_N6 g_1))) ?_
    refine z_iload_n (q := 31) (i := 2) (x := x2) dX1_taking_30 rfl rfl rfl ?_
    obtain ⟨g_7, hf⟩ := hf
    refine z_iald (q := 32) (n := 48) (z_L9_A2 (z_L0_N6 g_1)) g_7 dX1_taking_31 rfl ?_
    obtain ⟨g_8, hf⟩ := hf
    refine z_iast (q := 33) (n := 48) (z_L9_A19 (z_L0_N6 g_1)) g_8 dX1_taking_32 rfl ?_
    refine z_aload_n (q := 34) (i := 0) (x := a0) dX1_taking_33 rfl rfl rfl ?_
    obtain ⟨b_9, g_10, hf⟩ := hf
    refine z_get 0 4 (q := 37) (v := .ref b_9) rfl (z_lt rfl) (z_L0_T g_1) q510 dX1_taking_34 rfl (z_fvR (fun _ _ _ => rfl) g_10) ?_
    obtain ⟨g_11, hf⟩ := hf
    refine z_getN 8 1 (q := 40) (v := .ref (b_9 + 3)) rfl (z_lt rfl) (z_L8_T g_11) (z_nwm q334 rfl) dX1_taking_37 rfl (z_fvR (fun _ _ _ => rfl) (z_L8_P1 g_11)) ?_
    refine z_aload_n (q := 41) (i := 0) (x := a0) dX1_taking_40 rfl rfl rfl ?_
    refine z_get 0 6 (q := 44) (v := .ref (a0 + 23)) rfl (z_lt rfl) (z_L0_T g_1) q512 dX1_taking_41 rfl (z_fvR (fun _ _ _ => rfl) (z_L0_P6 g_1)) ?_
    refine z_getN 9 2 (q := 47) (v := .ref (a0 + 26)) rfl (z_lt rfl) (z_L9_T (z_L0_N6 g_1)) (z_nwm q379 rfl) dX1_taking_44 rfl (z_fvR (fun _ _ _ => rfl) (z_L9_P2 (z_L0_N6 g_1))) ?_
    refine z_iload_n (q := 48) (i := 2) (x := x2) dX1_taking_47 rfl rfl rfl ?_
    obtain ⟨g_12, hf⟩ := hf
    refine z_iald (q := 49) (n := 48) (z_L9_A2 (z_L0_N6 g_1)) g_12 dX1_taking_48 rfl ?_
    refine z_topI (z_rIa (by omega)) ?_
    obtain ⟨g_13, hf⟩ := hf
    refine z_iald (q := 50) (n := 8) (z_L8_A1 g_11) g_13 dX1_taking_49 rfl ?_
    refine z_if_le (q := 53) (tgt := 56) dX1_taking_50 rfl rfl (fun hc => ?_) (fun hc => ?_)
    · have hf := hf.1 hc
      refine z_iinc (q := 59) (i := 2) (x := x2) (v := (x2 + 1)) (ls2 := [some (.ref a0), some (.int x1), some (.int (x2 + 1))]) dX1_taking_56 rfl rfl (z_lt rfl) rfl rfl ?_
      refine z_goto (q := 4) dX1_taking_59 rfl ?_
      exact hf
    · have hf := hf.2 hc
      refine z_iinc (q := 56) (i := 1) (x := x1) (v := (x1 + 1)) (ls2 := [some (.ref a0), some (.int (x1 + 1)), some (.int x2)]) dX1_taking_53 rfl rfl (z_lt rfl) rfl rfl ?_
      refine z_iinc (q := 59) (i := 2) (x := x2) (v := (x2 + 1)) (ls2 := [some (.ref a0), some (.int (x1 + 1)), some (.int (x2 + 1))]) dX1_taking_56 rfl rfl (z_lt rfl) rfl rfl ?_
      refine z_goto (q := 4) dX1_taking_59 rfl ?_
      exact hf

theorem b_X1_taking_111 {l : Launch} {G : z_G} {rc rs : Nat} {a0 : Nat} {x1 : Int32} {h : z_H} {Q : z_Q}  (hf : z_L0 h a0 ∧ ∃ rc_2, rc = rc_2 + 1 ∧ ∃ rs_4, rs = rs_4 + 4 ∧ z_L0 (h.nw (28, 0)) a0 ∧ z_Ct l G m_X21_init [.ref (h.n), .int ((h.nw (28, 0)).I (a0 + 23) 10), .int ((h.nw (28, 0)).I (a0 + 23) 8), .int x1, .int ((h.nw (28, 0)).I (a0 + 23) 15)] (h.nw (28, 0)) (z_Qv (fun h_7 => ∃ rc_8, rc_2 = rc_8 + 1 ∧ ∃ rs_10, rs_4 = rs_10 + 64 ∧ (h_7.T (a0 + 30)).1 = 31 ∧ z_Ct l G m_J2_add [.ref (a0 + 30), .ref (h.n)] h_7 (z_Qi (fun x_13 h_14 => z_L0 h_14 a0 ∧ ∃ b_16, (h_14.P a0 4) = some b_16 ∧ z_L8 h_14 b_16 ∧ ((h_14.I (a0 + 23) 16) = 0 → ∃ b_21, (h_14.P a0 4) = some b_21 ∧ z_L8 h_14 b_21 ∧ z_Ct l G m_X10_order [.ref b_21] h_14 (z_Qi (fun x_24 h_25 => ∃ n_26, h_25.T (a0 + 3) = (6, n_26) ∧ vp_in x_24 n_26 ∧ ∃ b_29, (h_25.P (a0 + 3) (Int32.toNatClampNeg x_24)) = some b_29 ∧ z_L9 h_25 (a0 + 23) ∧ z_Ct l G m_X11_takes [.ref (a0 + 23), .ref (b_16 + 3), .ref b_29] h_25 (z_Qv (fun h_32 => Q none h_32))))) ∧ (¬ (h_14.I (a0 + 23) 16) = 0 → vp_in 1 5 ∧ ∃ b_34, (h_14.P (a0 + 3) (Int32.toNatClampNeg 1)) = some b_34 ∧ z_Ct l G m_X11_takes [.ref (a0 + 23), .ref (b_16 + 3), .ref b_34] h_14 (z_Qv (fun h_36 => Q none h_36)))))))) : z_V l G m_X1_taking (z_Fm G m_X1_taking Q) rc rs h 111 [some (.ref a0), some (.int x1), none] [] := by
  refine z_aload_n (q := 112) (i := 0) (x := a0) dX1_taking_111 rfl rfl rfl ?_
  obtain ⟨g_1, hf⟩ := hf
  refine z_get 0 6 (q := 115) (v := .ref (a0 + 23)) rfl (z_lt rfl) (z_L0_T g_1) q512 dX1_taking_112 rfl (z_fvR (fun _ _ _ => rfl) (z_L0_P6 g_1)) ?_
  refine z_getN 9 17 (q := 118) (v := .ref (a0 + 30)) rfl (z_lt rfl) (z_L9_T (z_L0_N6 g_1)) (z_nwm q414 rfl) dX1_taking_115 rfl (z_fvR (fun _ _ _ => rfl) (z_L9_P17 (z_L0_N6 g_1))) ?_
  obtain ⟨rc_2, g_3, hf⟩ := hf
  obtain ⟨rs_4, g_5, hf⟩ := hf
  refine z_new 18 (q := 121) (rc2 := rc_2) (rs2 := rs_4) rfl q1286 q1341 q160 dX1_taking_118 rfl g_3 g_5 ?_
  refine z_dup (q := 122) dX1_taking_121 rfl rfl ?_
  refine z_aload_n (q := 123) (i := 0) (x := a0) dX1_taking_122 rfl rfl rfl ?_
  obtain ⟨g_6, hf⟩ := hf
  refine z_get 0 6 (q := 126) (v := .ref (a0 + 23)) rfl (z_lt rfl) (z_L0_T g_6) q512 dX1_taking_123 rfl (z_fvR (fun _ _ _ => rfl) (z_L0_P6 g_6)) ?_
  refine z_getN 9 10 (q := 129) (v := .int ((h.nw (28, 0)).I (a0 + 23) 10)) rfl (z_lt rfl) (z_L9_T (z_L0_N6 g_6)) (z_nwm q396 rfl) dX1_taking_126 rfl rfl ?_
  refine z_aload_n (q := 130) (i := 0) (x := a0) dX1_taking_129 rfl rfl rfl ?_
  refine z_get 0 6 (q := 133) (v := .ref (a0 + 23)) rfl (z_lt rfl) (z_L0_T g_6) q512 dX1_taking_130 rfl (z_fvR (fun _ _ _ => rfl) (z_L0_P6 g_6)) ?_
  refine z_getN 9 8 (q := 136) (v := .int ((h.nw (28, 0)).I (a0 + 23) 8)) rfl (z_lt rfl) (z_L9_T (z_L0_N6 g_6)) (z_nwm q392 rfl) dX1_taking_133 rfl rfl ?_
  refine z_iload_n (q := 137) (i := 1) (x := x1) dX1_taking_136 rfl rfl rfl ?_
  refine z_aload_n (q := 138) (i := 0) (x := a0) dX1_taking_137 rfl rfl rfl ?_
  refine z_get 0 6 (q := 141) (v := .ref (a0 + 23)) rfl (z_lt rfl) (z_L0_T g_6) q512 dX1_taking_138 rfl (z_fvR (fun _ _ _ => rfl) (z_L0_P6 g_6)) ?_
  refine z_getN 9 15 (q := 144) (v := .int ((h.nw (28, 0)).I (a0 + 23) 15)) rfl (z_lt rfl) (z_L9_T (z_L0_N6 g_6)) (z_nwm q410 rfl) dX1_taking_141 rfl rfl ?_
  refine z_cIv m_X21_init [.int ((h.nw (28, 0)).I (a0 + 23) 10), .int ((h.nw (28, 0)).I (a0 + 23) 8), .int x1, .int ((h.nw (28, 0)).I (a0 + 23) 15)] ((h.n)) (q := 147) (rc2 := rc_2) (rs2 := rs_4) (st := [.ref (h.n), .ref (a0 + 30)]) dX1_taking_144 rfl q1342 oI_X21_init rfl rfl ⟨z_le rfl, z_le rfl⟩ (z_le rfl) rfl  rfl hf (fun h_7 hf => ?_)
  obtain ⟨rc_8, g_9, hf⟩ := hf
  obtain ⟨rs_10, g_11, hf⟩ := hf
  obtain ⟨g_12, hf⟩ := hf
  refine z_cVi m_J2_add [.ref (h.n)] ((a0 + 30)) (q := 150) (rc2 := rc_8) (rs2 := rs_10) (st := []) dX1_taking_147 rfl q1363 oV_J2_add rfl rfl ⟨z_le rfl, z_le rfl⟩ (z_le rfl) (z_rcv_of 21 rfl g_12 rfl) g_9  g_11 hf (fun x_13 h_14 hf => ?_)
  refine z_pop (q := 151) dX1_taking_150 rfl rfl ?_
  refine z_aload_n (q := 152) (i := 0) (x := a0) dX1_taking_151 rfl rfl rfl ?_
  obtain ⟨g_15, hf⟩ := hf
  refine z_get 0 6 (q := 155) (v := .ref (a0 + 23)) rfl (z_lt rfl) (z_L0_T g_15) q512 dX1_taking_152 rfl (z_fvR (fun _ _ _ => rfl) (z_L0_P6 g_15)) ?_
  refine z_aload_n (q := 156) (i := 0) (x := a0) dX1_taking_155 rfl rfl rfl ?_
  obtain ⟨b_16, g_17, hf⟩ := hf
  refine z_get 0 4 (q := 159) (v := .ref b_16) rfl (z_lt rfl) (z_L0_T g_15) q510 dX1_taking_156 rfl (z_fvR (fun _ _ _ => rfl) g_17) ?_
  obtain ⟨g_18, hf⟩ := hf
  refine z_getN 8 1 (q := 162) (v := .ref (b_16 + 3)) rfl (z_lt rfl) (z_L8_T g_18) (z_nwm q334 rfl) dX1_taking_159 rfl (z_fvR (fun _ _ _ => rfl) (z_L8_P1 g_18)) ?_
  refine z_aload_n (q := 163) (i := 0) (x := a0) dX1_taking_162 rfl rfl rfl ?_
  refine z_get 0 6 (q := 166) (v := .ref (a0 + 23)) rfl (z_lt rfl) (z_L0_T g_15) q512 dX1_taking_163 rfl (z_fvR (fun _ _ _ => rfl) (z_L0_P6 g_15)) ?_
  refine z_getN 9 16 (q := 169) (v := .int (h_14.I (a0 + 23) 16)) rfl (z_lt rfl) (z_L9_T (z_L0_N6 g_15)) (z_nwm q412 rfl) dX1_taking_166 rfl rfl ?_
  refine z_if_eq (q := 172) (tgt := 181) dX1_taking_169 rfl rfl (fun hc => ?_) (fun hc => ?_)
  · have hf := hf.1 hc
    refine z_aload_n (q := 182) (i := 0) (x := a0) dX1_taking_181 rfl rfl rfl ?_
    refine z_get 0 2 (q := 185) (v := .ref (a0 + 3)) rfl (z_lt rfl) (z_L0_T g_15) q507 dX1_taking_182 rfl (z_fvR (fun _ _ _ => rfl) (z_L0_P2 g_15)) ?_
    refine z_aload_n (q := 186) (i := 0) (x := a0) dX1_taking_185 rfl rfl rfl ?_
    obtain ⟨b_21, g_22, hf⟩ := hf
    refine z_get 0 4 (q := 189) (v := .ref b_21) rfl (z_lt rfl) (z_L0_T g_15) q510 dX1_taking_186 rfl (z_fvR (fun _ _ _ => rfl) g_22) ?_
    obtain ⟨g_23, hf⟩ := hf
    refine z_cVi m_X10_order [] (b_21) (q := 192) (rc2 := rc_8) (rs2 := rs_10) (st := [.ref (a0 + 3), .ref (b_16 + 3), .ref (a0 + 23)]) dX1_taking_189 rfl q1364 oV_X10_order rfl rfl ⟨z_le rfl, z_le rfl⟩ (z_le rfl) (z_rcv_of 8 rfl (z_L8_T g_23) rfl) rfl  rfl hf (fun x_24 h_25 hf => ?_)
    obtain ⟨n_26, g_27, hf⟩ := hf
    obtain ⟨g_28, hf⟩ := hf
    obtain ⟨b_29, g_30, hf⟩ := hf
    refine z_aald (q := 193) (n := n_26) (v := .ref b_29) g_27 (by decide) g_28 dX1_taking_192 rfl (z_rfR g_30) ?_
    obtain ⟨g_31, hf⟩ := hf
    refine z_cVv m_X11_takes [.ref (b_16 + 3), .ref b_29] ((a0 + 23)) (q := 196) (rc2 := rc_8) (rs2 := rs_10) (st := []) dX1_taking_193 rfl q1368 oV_X11_takes rfl rfl ⟨z_le rfl, z_le rfl⟩ (z_le rfl) (z_rcv_of 9 rfl (z_L9_T g_31) rfl) rfl  rfl hf (fun h_32 hf => ?_)
    exact z_vret dX1_taking_196 rfl hf
  · have hf := hf.2 hc
    refine z_aload_n (q := 173) (i := 0) (x := a0) dX1_taking_172 rfl rfl rfl ?_
    refine z_get 0 2 (q := 176) (v := .ref (a0 + 3)) rfl (z_lt rfl) (z_L0_T g_15) q507 dX1_taking_173 rfl (z_fvR (fun _ _ _ => rfl) (z_L0_P2 g_15)) ?_
    refine z_iconst (q := 177) (v := 1) dX1_taking_176 rfl rfl ?_
    obtain ⟨g_33, hf⟩ := hf
    obtain ⟨b_34, g_35, hf⟩ := hf
    refine z_aald (q := 178) (n := 5) (v := .ref b_34) (z_L0_A2 g_15) (by decide) g_33 dX1_taking_177 rfl (z_rfR g_35) ?_
    refine z_goto (q := 193) dX1_taking_178 rfl ?_
    refine z_cVv m_X11_takes [.ref (b_16 + 3), .ref b_34] ((a0 + 23)) (q := 196) (rc2 := rc_8) (rs2 := rs_10) (st := []) dX1_taking_193 rfl q1368 oV_X11_takes rfl rfl ⟨z_le rfl, z_le rfl⟩ (z_le rfl) (z_rcv_of 9 rfl (z_L9_T (z_L0_N6 g_15)) rfl) rfl  rfl hf (fun h_36 hf => ?_)
    exact z_vret dX1_taking_196 rfl hf

theorem u_X1_tried {l : Launch} {G : z_G} {mc ms : Nat} {a0 : Nat} {x1 : Int32} {a2 : Nat} {h : z_H} {Q : z_Q} (hst : l.stackTraces = false)  (hf : z_L0 h a0 ∧ vp_in x1 14 ∧ ((h.P (a0 + 58) (Int32.toNatClampNeg x1)) = none → ∃ rc_5, mc = rc_5 + 1 ∧ ∃ rs_7, ms = rs_7 + 24 ∧ ∃ rc_9, rc_5 = rc_9 + 12 ∧ ∃ rs_11, rs_7 = rs_11 + 362 ∧ z_Ct l G m_X11_init [.ref (h.n)] (h.nw (19, 0)) (z_Qv (fun h_13 => ∃ n_14, h_13.T (a0 + 58) = (7, n_14) ∧ vp_in x1 n_14 ∧ z_L9 h_13 (h.n) ∧ z_L0 (h_13.sP (a0 + 58) (Int32.toNatClampNeg x1) (some (h.n))) a0 ∧ vp_in x1 14 ∧ ∃ b_20, some (h.n) = some b_20 ∧ z_L9 (h_13.sP (a0 + 58) (Int32.toNatClampNeg x1) (some (h.n))) b_20 ∧ z_Ct l G m_X11_be [.ref b_20, .ref a2] (h_13.sP (a0 + 58) (Int32.toNatClampNeg x1) (some (h.n))) (z_Qv (fun h_23 => z_L0 h_23 a0 ∧ vp_in x1 14 ∧ Q (some (va_rf (h_23.P (a0 + 58) (Int32.toNatClampNeg x1)))) h_23))))) ∧ (∀ b_3, (h.P (a0 + 58) (Int32.toNatClampNeg x1)) = some b_3 → vp_in x1 14 ∧ z_L9 h b_3 ∧ z_Ct l G m_X11_be [.ref b_3, .ref a2] h (z_Qv (fun h_28 => z_L0 h_28 a0 ∧ vp_in x1 14 ∧ Q (some (va_rf (h_28.P (a0 + 58) (Int32.toNatClampNeg x1)))) h_28)))) : z_Ct l G (m_X1_tried mc ms) [.ref a0, .int x1, .ref a2] h Q := by
  refine z_Ct.of (ls := [some (.ref a0), some (.int x1), some (.ref a2)]) hst rfl (by decide +kernel) (z_le rfl) rfl ?_
  show z_V l G (m_X1_tried mc ms) (z_Fm G (m_X1_tried mc ms) Q) mc ms h 0 [some (.ref a0), some (.int x1), some (.ref a2)] []
  refine z_aload_n (q := 1) (i := 0) (x := a0) dX1_tried_0 rfl rfl rfl ?_
  obtain ⟨g_1, hf⟩ := hf
  refine z_get 0 19 (q := 4) (v := .ref (a0 + 58)) rfl (z_lt rfl) (z_L0_T g_1) q525 dX1_tried_1 rfl (z_fvR (fun _ _ _ => rfl) (z_L0_P19 g_1)) ?_
  refine z_iload_n (q := 5) (i := 1) (x := x1) dX1_tried_4 rfl rfl rfl ?_
  obtain ⟨g_2, hf⟩ := hf
  refine z_aald (q := 6) (n := 14) (v := va_rf (h.P (a0 + 58) (Int32.toNatClampNeg x1))) (z_L0_A19 g_1) (by decide) g_2 dX1_tried_5 rfl rfl ?_
  rcases z_nn (h.P (a0 + 58) (Int32.toNatClampNeg x1)) with hn | ⟨b_3, g_4⟩
  · have hf := hf.1 hn
    refine z_topq hn ?_
    refine z_ifnonnullN (q := 9) dX1_tried_6 rfl ?_
    refine z_aload_n (q := 10) (i := 0) (x := a0) dX1_tried_9 rfl rfl rfl ?_
    refine z_get 0 19 (q := 13) (v := .ref (a0 + 58)) rfl (z_lt rfl) (z_L0_T g_1) q525 dX1_tried_10 rfl (z_fvR (fun _ _ _ => rfl) (z_L0_P19 g_1)) ?_
    refine z_iload_n (q := 14) (i := 1) (x := x1) dX1_tried_13 rfl rfl rfl ?_
    obtain ⟨rc_5, g_6, hf⟩ := hf
    obtain ⟨rs_7, g_8, hf⟩ := hf
    refine z_new 9 (q := 17) (rc2 := rc_5) (rs2 := rs_7) rfl q364 q365 q135 dX1_tried_14 rfl g_6 g_8 ?_
    refine z_dup (q := 18) dX1_tried_17 rfl rfl ?_
    obtain ⟨rc_9, g_10, hf⟩ := hf
    obtain ⟨rs_11, g_12, hf⟩ := hf
    refine z_cINv m_X11_init [] ((h.n)) (q := 21) (rc2 := rc_9) (rs2 := rs_11) (st := [.ref (h.n), .int x1, .ref (a0 + 58)]) dX1_tried_18 rfl (z_nwm q366 rfl) oI_X11_init rfl rfl ⟨z_le rfl, z_le rfl⟩ (z_le rfl) g_10  g_12 hf (fun h_13 hf => ?_)
    obtain ⟨n_14, g_15, hf⟩ := hf
    obtain ⟨g_16, hf⟩ := hf
    obtain ⟨g_17, hf⟩ := hf
    refine z_aast (q := 22) (n := n_14) g_15 (by decide) (z_L9_T g_17) ⟨_, rfl, _, rfl, Or.inl rfl⟩ g_16 dX1_tried_21 rfl ?_
    refine z_aload_n (q := 23) (i := 0) (x := a0) dX1_tried_22 rfl rfl rfl ?_
    obtain ⟨g_18, hf⟩ := hf
    refine z_get 0 19 (q := 26) (v := .ref (a0 + 58)) rfl (z_lt rfl) (z_L0_T g_18) q525 dX1_tried_23 rfl (z_fvR (fun _ _ _ => rfl) (z_L0_P19 g_18)) ?_
    refine z_iload_n (q := 27) (i := 1) (x := x1) dX1_tried_26 rfl rfl rfl ?_
    obtain ⟨g_19, hf⟩ := hf
    obtain ⟨b_20, g_21, hf⟩ := hf
    refine z_aald (q := 28) (n := 14) (v := .ref b_20) (z_L0_A19 g_18) (by decide) g_19 dX1_tried_27 rfl (z_rfR (Eq.trans z_rPs g_21)) ?_
    refine z_aload_n (q := 29) (i := 2) (x := a2) dX1_tried_28 rfl rfl rfl ?_
    obtain ⟨g_22, hf⟩ := hf
    refine z_cVv m_X11_be [.ref a2] (b_20) (q := 32) (rc2 := rc_9) (rs2 := rs_11) (st := []) dX1_tried_29 rfl q1414 oV_X11_be rfl rfl ⟨z_le rfl, z_le rfl⟩ (z_le rfl) (z_rcv_of 9 rfl (z_L9_T g_22) rfl) rfl  rfl hf (fun h_23 hf => ?_)
    refine z_aload_n (q := 33) (i := 0) (x := a0) dX1_tried_32 rfl rfl rfl ?_
    obtain ⟨g_24, hf⟩ := hf
    refine z_get 0 19 (q := 36) (v := .ref (a0 + 58)) rfl (z_lt rfl) (z_L0_T g_24) q525 dX1_tried_33 rfl (z_fvR (fun _ _ _ => rfl) (z_L0_P19 g_24)) ?_
    refine z_iload_n (q := 37) (i := 1) (x := x1) dX1_tried_36 rfl rfl rfl ?_
    obtain ⟨g_25, hf⟩ := hf
    refine z_aald (q := 38) (n := 14) (v := va_rf (h_23.P (a0 + 58) (Int32.toNatClampNeg x1))) (z_L0_A19 g_24) (by decide) g_25 dX1_tried_37 rfl rfl ?_
    exact z_aret (r := (h_23.P (a0 + 58) (Int32.toNatClampNeg x1))) rfl dX1_tried_38 rfl (Or.inl ⟨_, rfl⟩) hf
  · have hf := hf.2 b_3 g_4
    refine z_topq g_4 ?_
    refine z_ifnonnull (q := 22) dX1_tried_6 rfl ?_
    refine z_aload_n (q := 23) (i := 0) (x := a0) dX1_tried_22 rfl rfl rfl ?_
    refine z_get 0 19 (q := 26) (v := .ref (a0 + 58)) rfl (z_lt rfl) (z_L0_T g_1) q525 dX1_tried_23 rfl (z_fvR (fun _ _ _ => rfl) (z_L0_P19 g_1)) ?_
    refine z_iload_n (q := 27) (i := 1) (x := x1) dX1_tried_26 rfl rfl rfl ?_
    obtain ⟨g_26, hf⟩ := hf
    refine z_aald (q := 28) (n := 14) (v := .ref b_3) (z_L0_A19 g_1) (by decide) g_26 dX1_tried_27 rfl (z_rfR g_4) ?_
    refine z_aload_n (q := 29) (i := 2) (x := a2) dX1_tried_28 rfl rfl rfl ?_
    obtain ⟨g_27, hf⟩ := hf
    refine z_cVv m_X11_be [.ref a2] (b_3) (q := 32) (rc2 := mc) (rs2 := ms) (st := []) dX1_tried_29 rfl q1414 oV_X11_be rfl rfl ⟨z_le rfl, z_le rfl⟩ (z_le rfl) (z_rcv_of 9 rfl (z_L9_T g_27) rfl) rfl  rfl hf (fun h_28 hf => ?_)
    refine z_aload_n (q := 33) (i := 0) (x := a0) dX1_tried_32 rfl rfl rfl ?_
    obtain ⟨g_29, hf⟩ := hf
    refine z_get 0 19 (q := 36) (v := .ref (a0 + 58)) rfl (z_lt rfl) (z_L0_T g_29) q525 dX1_tried_33 rfl (z_fvR (fun _ _ _ => rfl) (z_L0_P19 g_29)) ?_
    refine z_iload_n (q := 37) (i := 1) (x := x1) dX1_tried_36 rfl rfl rfl ?_
    obtain ⟨g_30, hf⟩ := hf
    refine z_aald (q := 38) (n := 14) (v := va_rf (h_28.P (a0 + 58) (Int32.toNatClampNeg x1))) (z_L0_A19 g_29) (by decide) g_30 dX1_tried_37 rfl rfl ?_
    exact z_aret (r := (h_28.P (a0 + 58) (Int32.toNatClampNeg x1))) rfl dX1_tried_38 rfl (Or.inl ⟨_, rfl⟩) hf

theorem u_X1_tries {l : Launch} {G : z_G} {a0 : Nat} {h : z_H} {Q : z_Q} (hst : l.stackTraces = false)  (hf : z_L0 h a0 ∧ z_Ct l G m_X11_be [.ref (a0 + 36), .ref (a0 + 23)] h (z_Qv (fun h_2 => z_L0 h_2 a0 ∧ ∃ b_4, (h_2.P a0 4) = some b_4 ∧ z_L8 h_2 b_4 ∧ ∃ b_7, (h_2.P a0 4) = some b_7 ∧ z_L8 h_2 b_7 ∧ z_Ct l G m_X10_limit [.ref b_7] h_2 (z_Qi (fun x_10 h_11 => z_L7 h_11 (a0 + 9) ∧ z_Ct l G m_X9_goes [.ref (a0 + 9), .ref (a0 + 36), .ref (b_4 + 3), .int x_10] h_11 (z_Qv (fun h_13 => Q none h_13))))))) : z_Ct l G m_X1_tries [.ref a0] h Q := by
  refine z_Ct.of (ls := [some (.ref a0)]) hst rfl (by decide +kernel) (z_le rfl) rfl ?_
  show z_V l G m_X1_tries (z_Fm G m_X1_tries Q) 0 0 h 0 [some (.ref a0)] []
  refine z_aload_n (q := 1) (i := 0) (x := a0) dX1_tries_0 rfl rfl rfl ?_
  obtain ⟨g_1, hf⟩ := hf
  refine z_get 0 7 (q := 4) (v := .ref (a0 + 36)) rfl (z_lt rfl) (z_L0_T g_1) q513 dX1_tries_1 rfl (z_fvR (fun _ _ _ => rfl) (z_L0_P7 g_1)) ?_
  refine z_aload_n (q := 5) (i := 0) (x := a0) dX1_tries_4 rfl rfl rfl ?_
  refine z_get 0 6 (q := 8) (v := .ref (a0 + 23)) rfl (z_lt rfl) (z_L0_T g_1) q512 dX1_tries_5 rfl (z_fvR (fun _ _ _ => rfl) (z_L0_P6 g_1)) ?_
  refine z_cVv m_X11_be [.ref (a0 + 23)] ((a0 + 36)) (q := 11) (rc2 := 0) (rs2 := 0) (st := []) dX1_tries_8 rfl q1414 oV_X11_be rfl rfl ⟨z_le rfl, z_le rfl⟩ (z_le rfl) (z_rcv_of 9 rfl (z_L9_T (z_L0_N7 g_1)) rfl) rfl  rfl hf (fun h_2 hf => ?_)
  refine z_aload_n (q := 12) (i := 0) (x := a0) dX1_tries_11 rfl rfl rfl ?_
  obtain ⟨g_3, hf⟩ := hf
  refine z_get 0 3 (q := 15) (v := .ref (a0 + 9)) rfl (z_lt rfl) (z_L0_T g_3) q508 dX1_tries_12 rfl (z_fvR (fun _ _ _ => rfl) (z_L0_P3 g_3)) ?_
  refine z_aload_n (q := 16) (i := 0) (x := a0) dX1_tries_15 rfl rfl rfl ?_
  refine z_get 0 7 (q := 19) (v := .ref (a0 + 36)) rfl (z_lt rfl) (z_L0_T g_3) q513 dX1_tries_16 rfl (z_fvR (fun _ _ _ => rfl) (z_L0_P7 g_3)) ?_
  refine z_aload_n (q := 20) (i := 0) (x := a0) dX1_tries_19 rfl rfl rfl ?_
  obtain ⟨b_4, g_5, hf⟩ := hf
  refine z_get 0 4 (q := 23) (v := .ref b_4) rfl (z_lt rfl) (z_L0_T g_3) q510 dX1_tries_20 rfl (z_fvR (fun _ _ _ => rfl) g_5) ?_
  obtain ⟨g_6, hf⟩ := hf
  refine z_getN 8 1 (q := 26) (v := .ref (b_4 + 3)) rfl (z_lt rfl) (z_L8_T g_6) (z_nwm q334 rfl) dX1_tries_23 rfl (z_fvR (fun _ _ _ => rfl) (z_L8_P1 g_6)) ?_
  refine z_aload_n (q := 27) (i := 0) (x := a0) dX1_tries_26 rfl rfl rfl ?_
  obtain ⟨b_7, g_8, hf⟩ := hf
  refine z_get 0 4 (q := 30) (v := .ref b_7) rfl (z_lt rfl) (z_L0_T g_3) q510 dX1_tries_27 rfl (z_fvR (fun _ _ _ => rfl) g_8) ?_
  obtain ⟨g_9, hf⟩ := hf
  refine z_cVi m_X10_limit [] (b_7) (q := 33) (rc2 := 0) (rs2 := 0) (st := [.ref (b_4 + 3), .ref (a0 + 36), .ref (a0 + 9)]) dX1_tries_30 rfl q1415 oV_X10_limit rfl rfl ⟨z_le rfl, z_le rfl⟩ (z_le rfl) (z_rcv_of 8 rfl (z_L8_T g_9) rfl) rfl  rfl hf (fun x_10 h_11 hf => ?_)
  obtain ⟨g_12, hf⟩ := hf
  refine z_cVv m_X9_goes [.ref (a0 + 36), .ref (b_4 + 3), .int x_10] ((a0 + 9)) (q := 36) (rc2 := 0) (rs2 := 0) (st := []) dX1_tries_33 rfl q1419 oV_X9_goes rfl rfl ⟨z_le rfl, z_le rfl⟩ (z_le rfl) (z_rcv_of 7 rfl (z_L7_T g_12) rfl) rfl  rfl hf (fun h_13 hf => ?_)
  exact z_vret dX1_tries_36 rfl hf

theorem u_X1_turn {l : Launch} {G : z_G} {a0 : Nat} {x1 : Int32} {h : z_H} {Q : z_Q} (hst : l.stackTraces = false)  (hf : z_Ct l G m_X1_in [.int x1, .int 1, .int 1000] h (z_Qi (fun x_1 h_2 => (x_1 = 0 → Q (some (.int (-1))) h_2) ∧ (¬ x_1 = 0 → z_L0 h_2 a0 ∧ ((h_2.I (a0 + 23) 12) < 0 → z_Ct l G m_X1_keeps [.ref a0] h_2 (z_Qv (fun h_4 => z_V l G m_X1_turn (z_Fm G m_X1_turn Q) 2000 68000 h_4 31 [some (.ref a0), some (.int x1), some (.int 0)] []))) ∧ (¬ (h_2.I (a0 + 23) 12) < 0 → Q (some (.int 0)) h_2))))) : z_Ct l G m_X1_turn [.ref a0, .int x1] h Q := by
  refine z_Ct.of (ls := [some (.ref a0), some (.int x1), none]) hst rfl (by decide +kernel) (z_le rfl) rfl ?_
  show z_V l G m_X1_turn (z_Fm G m_X1_turn Q) 2061 71458 h 0 [some (.ref a0), some (.int x1), none] []
  refine z_iload_n (q := 1) (i := 1) (x := x1) dX1_turn_0 rfl rfl rfl ?_
  refine z_iconst (q := 2) (v := 1) dX1_turn_1 rfl rfl ?_
  refine z_sipush (q := 5) (v := 1000) dX1_turn_2 (by decide) rfl ?_
  refine z_cSi m_X1_in [.int x1, .int 1, .int 1000] (q := 8) (rc2 := 2061) (rs2 := 71458) (st := []) dX1_turn_5 rfl q1259 oS_X1_in rfl rfl ⟨z_le rfl, z_le rfl⟩ (z_le rfl) rfl  rfl hf (fun x_1 h_2 hf => ?_)
  refine z_if_ne (q := 11) (tgt := 13) dX1_turn_8 rfl rfl (fun hc => ?_) (fun hc => ?_)
  · have hf := hf.2 hc
    refine z_aload_n (q := 14) (i := 0) (x := a0) dX1_turn_13 rfl rfl rfl ?_
    obtain ⟨g_3, hf⟩ := hf
    refine z_get 0 6 (q := 17) (v := .ref (a0 + 23)) rfl (z_lt rfl) (z_L0_T g_3) q512 dX1_turn_14 rfl (z_fvR (fun _ _ _ => rfl) (z_L0_P6 g_3)) ?_
    refine z_getN 9 12 (q := 20) (v := .int (h_2.I (a0 + 23) 12)) rfl (z_lt rfl) (z_L9_T (z_L0_N6 g_3)) (z_nwm q402 rfl) dX1_turn_17 rfl rfl ?_
    refine z_if_lt (q := 23) (tgt := 25) dX1_turn_20 rfl rfl (fun hc => ?_) (fun hc => ?_)
    · have hf := hf.1 hc
      refine z_aload_n (q := 26) (i := 0) (x := a0) dX1_turn_25 rfl rfl rfl ?_
      refine z_cVv m_X1_keeps [] (a0) (q := 29) (rc2 := 2000) (rs2 := 68000) (st := []) dX1_turn_26 rfl q1291 oV_X1_keeps rfl rfl ⟨z_le rfl, z_le rfl⟩ (z_le rfl) (z_rcv_of 0 rfl (z_L0_T g_3) rfl) rfl  rfl hf (fun h_4 hf => ?_)
      refine z_iconst (q := 30) (v := 0) dX1_turn_29 rfl rfl ?_
      refine z_istore_n (q := 31) (i := 2) (ls2 := [some (.ref a0), some (.int x1), some (.int 0)]) (x := 0) dX1_turn_30 rfl (z_lt rfl) rfl rfl ?_
      exact hf
    · have hf := hf.2 hc
      refine z_iconst (q := 24) (v := 0) dX1_turn_23 rfl rfl ?_
      exact z_iret dX1_turn_24 rfl hf
  · have hf := hf.1 hc
    refine z_iconst (q := 12) (v := (-1)) dX1_turn_11 rfl rfl ?_
    exact z_iret dX1_turn_12 rfl hf

theorem b_X1_turn_31 {l : Launch} {G : z_G} {rc rs : Nat} {a0 : Nat} {x1 : Int32} {x2 : Int32} {h : z_H} {Q : z_Q}  (hf : (x1 ≤ x2 → Q (some (.int x2)) h) ∧ (¬ x1 ≤ x2 → ∃ rc_1, rc = rc_1 + 2 ∧ ∃ rs_3, rs = rs_3 + 68 ∧ z_L0 h a0 ∧ z_Ct l G m_X1_turns [.ref a0] h (z_Qi (fun x_6 h_7 => (x_6 = 0 → Q (some (.int x2)) h_7) ∧ (¬ x_6 = 0 → z_V l G m_X1_turn (z_Fm G m_X1_turn Q) rc_1 rs_3 h_7 31 [some (.ref a0), some (.int x1), some (.int (x2 + 1))] []))))) : z_V l G m_X1_turn (z_Fm G m_X1_turn Q) rc rs h 31 [some (.ref a0), some (.int x1), some (.int x2)] [] := by
  refine z_iload_n (q := 32) (i := 2) (x := x2) dX1_turn_31 rfl rfl rfl ?_
  refine z_iload_n (q := 33) (i := 1) (x := x1) dX1_turn_32 rfl rfl rfl ?_
  refine z_icmp_ge (q := 36) (tgt := 49) dX1_turn_33 rfl rfl (fun hc => ?_) (fun hc => ?_)
  · have hf := hf.1 hc
    refine z_iload_n (q := 50) (i := 2) (x := x2) dX1_turn_49 rfl rfl rfl ?_
    exact z_iret dX1_turn_50 rfl hf
  · have hf := hf.2 hc
    refine z_aload_n (q := 37) (i := 0) (x := a0) dX1_turn_36 rfl rfl rfl ?_
    obtain ⟨rc_1, g_2, hf⟩ := hf
    obtain ⟨rs_3, g_4, hf⟩ := hf
    obtain ⟨g_5, hf⟩ := hf
    refine z_cVi m_X1_turns [] (a0) (q := 40) (rc2 := rc_1) (rs2 := rs_3) (st := []) dX1_turn_37 rfl q1311 oV_X1_turns rfl rfl ⟨z_le rfl, z_le rfl⟩ (z_le rfl) (z_rcv_of 0 rfl (z_L0_T g_5) rfl) g_2  g_4 hf (fun x_6 h_7 hf => ?_)
    refine z_if_eq (q := 43) (tgt := 49) dX1_turn_40 rfl rfl (fun hc => ?_) (fun hc => ?_)
    · have hf := hf.1 hc
      refine z_iload_n (q := 50) (i := 2) (x := x2) dX1_turn_49 rfl rfl rfl ?_
      exact z_iret dX1_turn_50 rfl hf
    · have hf := hf.2 hc
      refine z_iinc (q := 46) (i := 2) (x := x2) (v := (x2 + 1)) (ls2 := [some (.ref a0), some (.int x1), some (.int (x2 + 1))]) dX1_turn_43 rfl rfl (z_lt rfl) rfl rfl ?_
      refine z_goto (q := 31) dX1_turn_46 rfl ?_
      exact hf

theorem u_X1_turns {l : Launch} {G : z_G} {a0 : Nat} {h : z_H} {Q : z_Q} (hst : l.stackTraces = false)  (hf : z_L0 h a0 ∧ ∀ v_2 : Int32, v_2 = (h.I (a0 + 23) 13) → ∃ b_4, (h.P a0 4) = some b_4 ∧ z_L8 h b_4 ∧ z_Ct l G m_X11_turned [.ref (a0 + 23), .ref (b_4 + 3)] h (z_Qi (fun x_7 h_8 => (x_7 = 0 → z_L0 h_8 a0 ∧ ((h_8.I (a0 + 23) 13) ≤ v_2 → z_Ct l G m_X1_settles [.ref a0] h_8 (z_Qv (fun h_10 => Q (some (.int 0)) h_10))) ∧ (¬ (h_8.I (a0 + 23) 13) ≤ v_2 → Q (some (.int 1)) h_8)) ∧ (¬ x_7 = 0 → z_L0 h_8 a0 ∧ z_Ct l G m_X1_taking [.ref a0] h_8 (z_Qv (fun h_12 => z_L0 h_12 a0 ∧ ((h_12.I (a0 + 23) 13) ≤ v_2 → z_Ct l G m_X1_settles [.ref a0] h_12 (z_Qv (fun h_14 => Q (some (.int 0)) h_14))) ∧ (¬ (h_12.I (a0 + 23) 13) ≤ v_2 → Q (some (.int 1)) h_12))))))) : z_Ct l G m_X1_turns [.ref a0] h Q := by
  refine z_Ct.of (ls := [some (.ref a0), none]) hst rfl (by decide +kernel) (z_le rfl) rfl ?_
  show z_V l G m_X1_turns (z_Fm G m_X1_turns Q) 2 68 h 0 [some (.ref a0), none] []
  refine z_aload_n (q := 1) (i := 0) (x := a0) dX1_turns_0 rfl rfl rfl ?_
  obtain ⟨g_1, hf⟩ := hf
  refine z_get 0 6 (q := 4) (v := .ref (a0 + 23)) rfl (z_lt rfl) (z_L0_T g_1) q512 dX1_turns_1 rfl (z_fvR (fun _ _ _ => rfl) (z_L0_P6 g_1)) ?_
  refine z_getN 9 13 (q := 7) (v := .int (h.I (a0 + 23) 13)) rfl (z_lt rfl) (z_L9_T (z_L0_N6 g_1)) (z_nwm q405 rfl) dX1_turns_4 rfl rfl ?_
  refine z_nmI (fun v_2 hv_3 => ?_)
  have hf := hf v_2 hv_3
  refine z_istore_n (q := 8) (i := 1) (ls2 := [some (.ref a0), some (.int v_2)]) (x := v_2) dX1_turns_7 rfl (z_lt rfl) rfl rfl ?_
  refine z_aload_n (q := 9) (i := 0) (x := a0) dX1_turns_8 rfl rfl rfl ?_
  refine z_get 0 6 (q := 12) (v := .ref (a0 + 23)) rfl (z_lt rfl) (z_L0_T g_1) q512 dX1_turns_9 rfl (z_fvR (fun _ _ _ => rfl) (z_L0_P6 g_1)) ?_
  refine z_aload_n (q := 13) (i := 0) (x := a0) dX1_turns_12 rfl rfl rfl ?_
  obtain ⟨b_4, g_5, hf⟩ := hf
  refine z_get 0 4 (q := 16) (v := .ref b_4) rfl (z_lt rfl) (z_L0_T g_1) q510 dX1_turns_13 rfl (z_fvR (fun _ _ _ => rfl) g_5) ?_
  obtain ⟨g_6, hf⟩ := hf
  refine z_getN 8 1 (q := 19) (v := .ref (b_4 + 3)) rfl (z_lt rfl) (z_L8_T g_6) (z_nwm q334 rfl) dX1_turns_16 rfl (z_fvR (fun _ _ _ => rfl) (z_L8_P1 g_6)) ?_
  refine z_cVi m_X11_turned [.ref (b_4 + 3)] ((a0 + 23)) (q := 22) (rc2 := 2) (rs2 := 68) (st := []) dX1_turns_19 rfl q1315 oV_X11_turned rfl rfl ⟨z_le rfl, z_le rfl⟩ (z_le rfl) (z_rcv_of 9 rfl (z_L9_T (z_L0_N6 g_1)) rfl) rfl  rfl hf (fun x_7 h_8 hf => ?_)
  refine z_if_eq (q := 25) (tgt := 29) dX1_turns_22 rfl rfl (fun hc => ?_) (fun hc => ?_)
  · have hf := hf.1 hc
    refine z_aload_n (q := 30) (i := 0) (x := a0) dX1_turns_29 rfl rfl rfl ?_
    obtain ⟨g_9, hf⟩ := hf
    refine z_get 0 6 (q := 33) (v := .ref (a0 + 23)) rfl (z_lt rfl) (z_L0_T g_9) q512 dX1_turns_30 rfl (z_fvR (fun _ _ _ => rfl) (z_L0_P6 g_9)) ?_
    refine z_getN 9 13 (q := 36) (v := .int (h_8.I (a0 + 23) 13)) rfl (z_lt rfl) (z_L9_T (z_L0_N6 g_9)) (z_nwm q405 rfl) dX1_turns_33 rfl rfl ?_
    refine z_iload_n (q := 37) (i := 1) (x := v_2) dX1_turns_36 rfl rfl rfl ?_
    refine z_icmp_le (q := 40) (tgt := 42) dX1_turns_37 rfl rfl (fun hc => ?_) (fun hc => ?_)
    · have hf := hf.1 hc
      refine z_aload_n (q := 43) (i := 0) (x := a0) dX1_turns_42 rfl rfl rfl ?_
      refine z_cVv m_X1_settles [] (a0) (q := 46) (rc2 := 2) (rs2 := 68) (st := []) dX1_turns_43 rfl q1391 oV_X1_settles rfl rfl ⟨z_le rfl, z_le rfl⟩ (z_le rfl) (z_rcv_of 0 rfl (z_L0_T g_9) rfl) rfl  rfl hf (fun h_10 hf => ?_)
      refine z_iconst (q := 47) (v := 0) dX1_turns_46 rfl rfl ?_
      exact z_zret dX1_turns_47 rfl (z_nb01 z_b0) hf
    · have hf := hf.2 hc
      refine z_iconst (q := 41) (v := 1) dX1_turns_40 rfl rfl ?_
      exact z_zret dX1_turns_41 rfl (z_nb01 z_b1) hf
  · have hf := hf.2 hc
    refine z_aload_n (q := 26) (i := 0) (x := a0) dX1_turns_25 rfl rfl rfl ?_
    obtain ⟨g_11, hf⟩ := hf
    refine z_cVv m_X1_taking [] (a0) (q := 29) (rc2 := 0) (rs2 := 0) (st := []) dX1_turns_26 rfl q1328 oV_X1_taking rfl rfl ⟨z_le rfl, z_le rfl⟩ (z_le rfl) (z_rcv_of 0 rfl (z_L0_T g_11) rfl) rfl  rfl hf (fun h_12 hf => ?_)
    refine z_aload_n (q := 30) (i := 0) (x := a0) dX1_turns_29 rfl rfl rfl ?_
    obtain ⟨g_13, hf⟩ := hf
    refine z_get 0 6 (q := 33) (v := .ref (a0 + 23)) rfl (z_lt rfl) (z_L0_T g_13) q512 dX1_turns_30 rfl (z_fvR (fun _ _ _ => rfl) (z_L0_P6 g_13)) ?_
    refine z_getN 9 13 (q := 36) (v := .int (h_12.I (a0 + 23) 13)) rfl (z_lt rfl) (z_L9_T (z_L0_N6 g_13)) (z_nwm q405 rfl) dX1_turns_33 rfl rfl ?_
    refine z_iload_n (q := 37) (i := 1) (x := v_2) dX1_turns_36 rfl rfl rfl ?_
    refine z_icmp_le (q := 40) (tgt := 42) dX1_turns_37 rfl rfl (fun hc => ?_) (fun hc => ?_)
    · have hf := hf.1 hc
      refine z_aload_n (q := 43) (i := 0) (x := a0) dX1_turns_42 rfl rfl rfl ?_
      refine z_cVv m_X1_settles [] (a0) (q := 46) (rc2 := 0) (rs2 := 0) (st := []) dX1_turns_43 rfl q1391 oV_X1_settles rfl rfl ⟨z_le rfl, z_le rfl⟩ (z_le rfl) (z_rcv_of 0 rfl (z_L0_T g_13) rfl) rfl  rfl hf (fun h_14 hf => ?_)
      refine z_iconst (q := 47) (v := 0) dX1_turns_46 rfl rfl ?_
      exact z_zret dX1_turns_47 rfl (z_nb01 z_b0) hf
    · have hf := hf.2 hc
      refine z_iconst (q := 41) (v := 1) dX1_turns_40 rfl rfl ?_
      exact z_zret dX1_turns_41 rfl (z_nb01 z_b1) hf

theorem u_X1_undo {l : Launch} {G : z_G} {a0 : Nat} {h : z_H} {Q : z_Q} (hst : l.stackTraces = false)  (hf : z_L0 h a0 ∧ ((h.I a0 14) = 0 → Q (some (.int 0)) h) ∧ (¬ (h.I a0 14) = 0 → vp_in ((h.I a0 14) - 1) 16 ∧ ∃ b_3, (h.P (a0 + 54) (Int32.toNatClampNeg ((h.I a0 14) - 1))) = some b_3 ∧ z_Ct l G m_X11_beWhole [.ref (a0 + 23), .ref b_3] (h.sI a0 14 ((h.I a0 14) - 1)) (z_Qv (fun h_5 => Q (some (.int 1)) h_5)))) : z_Ct l G m_X1_undo [.ref a0] h Q := by
  refine z_Ct.of (ls := [some (.ref a0)]) hst rfl (by decide +kernel) (z_le rfl) rfl ?_
  show z_V l G m_X1_undo (z_Fm G m_X1_undo Q) 48 3072 h 0 [some (.ref a0)] []
  refine z_aload_n (q := 1) (i := 0) (x := a0) dX1_undo_0 rfl rfl rfl ?_
  obtain ⟨g_1, hf⟩ := hf
  refine z_get 0 14 (q := 4) (v := .int (h.I a0 14)) rfl (z_lt rfl) (z_L0_T g_1) q520 dX1_undo_1 rfl rfl ?_
  refine z_if_ne (q := 7) (tgt := 9) dX1_undo_4 rfl rfl (fun hc => ?_) (fun hc => ?_)
  · have hf := hf.2 hc
    refine z_aload_n (q := 10) (i := 0) (x := a0) dX1_undo_9 rfl rfl rfl ?_
    refine z_get 0 6 (q := 13) (v := .ref (a0 + 23)) rfl (z_lt rfl) (z_L0_T g_1) q512 dX1_undo_10 rfl (z_fvR (fun _ _ _ => rfl) (z_L0_P6 g_1)) ?_
    refine z_aload_n (q := 14) (i := 0) (x := a0) dX1_undo_13 rfl rfl rfl ?_
    refine z_get 0 13 (q := 17) (v := .ref (a0 + 54)) rfl (z_lt rfl) (z_L0_T g_1) q519 dX1_undo_14 rfl (z_fvR (fun _ _ _ => rfl) (z_L0_P13 g_1)) ?_
    refine z_aload_n (q := 18) (i := 0) (x := a0) dX1_undo_17 rfl rfl rfl ?_
    refine z_dup (q := 19) dX1_undo_18 rfl rfl ?_
    refine z_get 0 14 (q := 22) (v := .int (h.I a0 14)) rfl (z_lt rfl) (z_L0_T g_1) q520 dX1_undo_19 rfl rfl ?_
    refine z_iconst (q := 23) (v := 1) dX1_undo_22 rfl rfl ?_
    refine z_isub (q := 24) dX1_undo_23 rfl ?_
    refine z_dup_x1 (q := 25) dX1_undo_24 rfl rfl rfl ?_
    refine z_putI 0 14 (q := 28) (x := ((h.I a0 14) - 1)) (v := .int ((h.I a0 14) - 1)) rfl (z_lt rfl) (z_L0_T g_1) q520 rfl dX1_undo_25 rfl rfl rfl rfl (fun _ _ _ => rfl) ?_
    obtain ⟨g_2, hf⟩ := hf
    obtain ⟨b_3, g_4, hf⟩ := hf
    refine z_aald (q := 29) (n := 16) (v := .ref b_3) (z_L0_A13 g_1) (by decide) g_2 dX1_undo_28 rfl (z_rfR g_4) ?_
    refine z_cVv m_X11_beWhole [.ref b_3] ((a0 + 23)) (q := 32) (rc2 := 0) (rs2 := 0) (st := []) dX1_undo_29 rfl q1295 oV_X11_beWhole rfl rfl ⟨z_le rfl, z_le rfl⟩ (z_le rfl) (z_rcv_of 9 rfl (z_L9_T (z_L0_N6 g_1)) rfl) rfl  rfl hf (fun h_5 hf => ?_)
    refine z_iconst (q := 33) (v := 1) dX1_undo_32 rfl rfl ?_
    exact z_zret dX1_undo_33 rfl (z_nb01 z_b1) hf
  · have hf := hf.1 hc
    refine z_iconst (q := 8) (v := 0) dX1_undo_7 rfl rfl ?_
    exact z_zret dX1_undo_8 rfl (z_nb01 z_b0) hf

theorem u_X1_unseen {l : Launch} {G : z_G} {a0 : Nat} {x1 : Int32} {h : z_H} {Q : z_Q} (hst : l.stackTraces = false)  (hf : z_Ct l G m_X1_isSide [.int x1] h (z_Qi (fun x_1 h_2 => (x_1 = 0 → Q (some (.int (-1))) h_2) ∧ (¬ x_1 = 0 → z_L0 h_2 a0 ∧ z_Ct l G m_X1_unseenOf [.ref a0, .int x1] h_2 (z_Qi (fun x_4 h_5 => Q (some (.int x_4)) h_5)))))) : z_Ct l G m_X1_unseen [.ref a0, .int x1] h Q := by
  refine z_Ct.of (ls := [some (.ref a0), some (.int x1)]) hst rfl (by decide +kernel) (z_le rfl) rfl ?_
  show z_V l G m_X1_unseen (z_Fm G m_X1_unseen Q) 0 0 h 0 [some (.ref a0), some (.int x1)] []
  refine z_iload_n (q := 1) (i := 1) (x := x1) dX1_unseen_0 rfl rfl rfl ?_
  refine z_cSi m_X1_isSide [.int x1] (q := 4) (rc2 := 0) (rs2 := 0) (st := []) dX1_unseen_1 rfl q1274 oS_X1_isSide rfl rfl ⟨z_le rfl, z_le rfl⟩ (z_le rfl) rfl  rfl hf (fun x_1 h_2 hf => ?_)
  refine z_if_eq (q := 7) (tgt := 15) dX1_unseen_4 rfl rfl (fun hc => ?_) (fun hc => ?_)
  · have hf := hf.1 hc
    refine z_iconst (q := 16) (v := (-1)) dX1_unseen_15 rfl rfl ?_
    exact z_iret dX1_unseen_16 rfl hf
  · have hf := hf.2 hc
    refine z_aload_n (q := 8) (i := 0) (x := a0) dX1_unseen_7 rfl rfl rfl ?_
    refine z_iload_n (q := 9) (i := 1) (x := x1) dX1_unseen_8 rfl rfl rfl ?_
    obtain ⟨g_3, hf⟩ := hf
    refine z_cVi m_X1_unseenOf [.int x1] (a0) (q := 12) (rc2 := 0) (rs2 := 0) (st := []) dX1_unseen_9 rfl q1515 oV_X1_unseenOf rfl rfl ⟨z_le rfl, z_le rfl⟩ (z_le rfl) (z_rcv_of 0 rfl (z_L0_T g_3) rfl) rfl  rfl hf (fun x_4 h_5 hf => ?_)
    refine z_goto (q := 16) dX1_unseen_12 rfl ?_
    exact z_iret dX1_unseen_16 rfl hf

theorem u_X1_unseenOf {l : Launch} {G : z_G} {a0 : Nat} {x1 : Int32} {h : z_H} {Q : z_Q} (hst : l.stackTraces = false)  (hf : z_V l G m_X1_unseenOf (z_Fm G m_X1_unseenOf Q) 0 0 h 4 [some (.ref a0), some (.int x1), some (.int 0), some (.int 0)] []) : z_Ct l G m_X1_unseenOf [.ref a0, .int x1] h Q := by
  refine z_Ct.of (ls := [some (.ref a0), some (.int x1), none, none]) hst rfl (by decide +kernel) (z_le rfl) rfl ?_
  show z_V l G m_X1_unseenOf (z_Fm G m_X1_unseenOf Q) 0 0 h 0 [some (.ref a0), some (.int x1), none, none] []
  refine z_iconst (q := 1) (v := 0) dX1_unseenOf_0 rfl rfl ?_
  refine z_istore_n (q := 2) (i := 2) (ls2 := [some (.ref a0), some (.int x1), some (.int 0), none]) (x := 0) dX1_unseenOf_1 rfl (z_lt rfl) rfl rfl ?_
  refine z_iconst (q := 3) (v := 0) dX1_unseenOf_2 rfl rfl ?_
  refine z_istore_n (q := 4) (i := 3) (ls2 := [some (.ref a0), some (.int x1), some (.int 0), some (.int 0)]) (x := 0) dX1_unseenOf_3 rfl (z_lt rfl) rfl rfl ?_
  exact hf

theorem b_X1_unseenOf_4 {l : Launch} {G : z_G} {a0 : Nat} {x1 : Int32} {x2 : Int32} {x3 : Int32} {h : z_H} {Q : z_Q}  (hf : z_L0 h a0 ∧ z_Ct l G m_X11_cards [.ref (a0 + 23), .int x1] h (z_Qi (fun x_2 h_3 => (x_2 ≤ x3 → Q (some (.int x2)) h_3) ∧ (¬ x_2 ≤ x3 → (x1 = 0 → z_L0 h_3 a0 ∧ vp_in x3 48 ∧ ((h_3.I (a0 + 28) (Int32.toNatClampNeg x3)) = 0 → z_V l G m_X1_unseenOf (z_Fm G m_X1_unseenOf Q) 0 0 h_3 4 [some (.ref a0), some (.int x1), some (.int x2), some (.int (x3 + 1))] []) ∧ (¬ (h_3.I (a0 + 28) (Int32.toNatClampNeg x3)) = 0 → z_V l G m_X1_unseenOf (z_Fm G m_X1_unseenOf Q) 0 0 h_3 4 [some (.ref a0), some (.int x1), some (.int (x2 + 1)), some (.int (x3 + 1))] [])) ∧ (¬ x1 = 0 → z_L0 h_3 a0 ∧ vp_in x3 48 ∧ ((h_3.I (a0 + 29) (Int32.toNatClampNeg x3)) = 0 → z_V l G m_X1_unseenOf (z_Fm G m_X1_unseenOf Q) 0 0 h_3 4 [some (.ref a0), some (.int x1), some (.int x2), some (.int (x3 + 1))] []) ∧ (¬ (h_3.I (a0 + 29) (Int32.toNatClampNeg x3)) = 0 → z_V l G m_X1_unseenOf (z_Fm G m_X1_unseenOf Q) 0 0 h_3 4 [some (.ref a0), some (.int x1), some (.int (x2 + 1)), some (.int (x3 + 1))] [])))))) : z_V l G m_X1_unseenOf (z_Fm G m_X1_unseenOf Q) 0 0 h 4 [some (.ref a0), some (.int x1), some (.int x2), some (.int x3)] [] := by
  refine z_iload_n (q := 5) (i := 3) (x := x3) dX1_unseenOf_4 rfl rfl rfl ?_
  refine z_aload_n (q := 6) (i := 0) (x := a0) dX1_unseenOf_5 rfl rfl rfl ?_
  obtain ⟨g_1, hf⟩ := hf
  refine z_get 0 6 (q := 9) (v := .ref (a0 + 23)) rfl (z_lt rfl) (z_L0_T g_1) q512 dX1_unseenOf_6 rfl (z_fvR (fun _ _ _ => rfl) (z_L0_P6 g_1)) ?_
  refine z_iload_n (q := 10) (i := 1) (x := x1) dX1_unseenOf_9 rfl rfl rfl ?_
  refine z_cVi m_X11_cards [.int x1] ((a0 + 23)) (q := 13) (rc2 := 0) (rs2 := 0) (st := [.int x3]) dX1_unseenOf_10 rfl q1262 oV_X11_cards rfl rfl ⟨z_le rfl, z_le rfl⟩ (z_le rfl) (z_rcv_of 9 rfl (z_L9_T (z_L0_N6 g_1)) rfl) rfl  rfl hf (fun x_2 h_3 hf => ?_)
  refine z_icmp_ge (q := 16) (tgt := 56) dX1_unseenOf_13 rfl rfl (fun hc => ?_) (fun hc => ?_)
  · have hf := hf.1 hc
    refine z_iload_n (q := 57) (i := 2) (x := x2) dX1_unseenOf_56 rfl rfl rfl ?_
    exact z_iret dX1_unseenOf_57 rfl hf
  · have hf := hf.2 hc
    refine z_iload_n (q := 17) (i := 1) (x := x1) dX1_unseenOf_16 rfl rfl rfl ?_
    refine z_if_ne (q := 20) (tgt := 35) dX1_unseenOf_17 rfl rfl (fun hc => ?_) (fun hc => ?_)
    · have hf := hf.2 hc
      refine z_aload_n (q := 36) (i := 0) (x := a0) dX1_unseenOf_35 rfl rfl rfl ?_
      obtain ⟨g_6, hf⟩ := hf
      refine z_get 0 6 (q := 39) (v := .ref (a0 + 23)) rfl (z_lt rfl) (z_L0_T g_6) q512 dX1_unseenOf_36 rfl (z_fvR (fun _ _ _ => rfl) (z_L0_P6 g_6)) ?_
      refine z_getN 9 5 (q := 42) (v := .ref (a0 + 29)) rfl (z_lt rfl) (z_L9_T (z_L0_N6 g_6)) (z_nwm q384 rfl) dX1_unseenOf_39 rfl (z_fvR (fun _ _ _ => rfl) (z_L9_P5 (z_L0_N6 g_6))) ?_
      refine z_iload_n (q := 43) (i := 3) (x := x3) dX1_unseenOf_42 rfl rfl rfl ?_
      obtain ⟨g_7, hf⟩ := hf
      refine z_zald (q := 44) (n := 48) (z_L9_A5 (z_L0_N6 g_6)) g_7 dX1_unseenOf_43 rfl ?_
      refine z_if_eq (q := 47) (tgt := 50) dX1_unseenOf_44 rfl rfl (fun hc => ?_) (fun hc => ?_)
      · have hf := hf.1 hc
        refine z_iinc (q := 53) (i := 3) (x := x3) (v := (x3 + 1)) (ls2 := [some (.ref a0), some (.int x1), some (.int x2), some (.int (x3 + 1))]) dX1_unseenOf_50 rfl rfl (z_lt rfl) rfl rfl ?_
        refine z_goto (q := 4) dX1_unseenOf_53 rfl ?_
        exact hf
      · have hf := hf.2 hc
        refine z_iinc (q := 50) (i := 2) (x := x2) (v := (x2 + 1)) (ls2 := [some (.ref a0), some (.int x1), some (.int (x2 + 1)), some (.int x3)]) dX1_unseenOf_47 rfl rfl (z_lt rfl) rfl rfl ?_
        refine z_iinc (q := 53) (i := 3) (x := x3) (v := (x3 + 1)) (ls2 := [some (.ref a0), some (.int x1), some (.int (x2 + 1)), some (.int (x3 + 1))]) dX1_unseenOf_50 rfl rfl (z_lt rfl) rfl rfl ?_
        refine z_goto (q := 4) dX1_unseenOf_53 rfl ?_
        exact hf
    · have hf := hf.1 hc
      refine z_aload_n (q := 21) (i := 0) (x := a0) dX1_unseenOf_20 rfl rfl rfl ?_
      obtain ⟨g_8, hf⟩ := hf
      refine z_get 0 6 (q := 24) (v := .ref (a0 + 23)) rfl (z_lt rfl) (z_L0_T g_8) q512 dX1_unseenOf_21 rfl (z_fvR (fun _ _ _ => rfl) (z_L0_P6 g_8)) ?_
      refine z_getN 9 4 (q := 27) (v := .ref (a0 + 28)) rfl (z_lt rfl) (z_L9_T (z_L0_N6 g_8)) (z_nwm q382 rfl) dX1_unseenOf_24 rfl (z_fvR (fun _ _ _ => rfl) (z_L9_P4 (z_L0_N6 g_8))) ?_
      refine z_iload_n (q := 28) (i := 3) (x := x3) dX1_unseenOf_27 rfl rfl rfl ?_
      obtain ⟨g_9, hf⟩ := hf
      refine z_zald (q := 29) (n := 48) (z_L9_A4 (z_L0_N6 g_8)) g_9 dX1_unseenOf_28 rfl ?_
      refine z_if_eq (q := 32) (tgt := 50) dX1_unseenOf_29 rfl rfl (fun hc => ?_) (fun hc => ?_)
      · have hf := hf.1 hc
        refine z_iinc (q := 53) (i := 3) (x := x3) (v := (x3 + 1)) (ls2 := [some (.ref a0), some (.int x1), some (.int x2), some (.int (x3 + 1))]) dX1_unseenOf_50 rfl rfl (z_lt rfl) rfl rfl ?_
        refine z_goto (q := 4) dX1_unseenOf_53 rfl ?_
        exact hf
      · have hf := hf.2 hc
        refine z_goto (q := 47) dX1_unseenOf_32 rfl ?_
        refine z_iinc (q := 50) (i := 2) (x := x2) (v := (x2 + 1)) (ls2 := [some (.ref a0), some (.int x1), some (.int (x2 + 1)), some (.int x3)]) dX1_unseenOf_47 rfl rfl (z_lt rfl) rfl rfl ?_
        refine z_iinc (q := 53) (i := 3) (x := x3) (v := (x3 + 1)) (ls2 := [some (.ref a0), some (.int x1), some (.int (x2 + 1)), some (.int (x3 + 1))]) dX1_unseenOf_50 rfl rfl (z_lt rfl) rfl rfl ?_
        refine z_goto (q := 4) dX1_unseenOf_53 rfl ?_
        exact hf

theorem u_X1_worth {l : Launch} {G : z_G} {a0 : Nat} {x1 : Int32} {x2 : Int32} {h : z_H} {Q : z_Q} (hst : l.stackTraces = false)  (hf : z_L0 h a0 ∧ z_Ct l G m_X1_isKind [.ref a0, .int x1] h (z_Qi (fun x_2 h_3 => (x_2 = 0 → Q (some (.int (-1))) h_3) ∧ (¬ x_2 = 0 → z_Ct l G m_X1_in [.int x2, .int 0, .int 1] h_3 (z_Qi (fun x_4 h_5 => (x_4 = 0 → Q (some (.int (-1))) h_5) ∧ (¬ x_4 = 0 → z_L0 h_5 a0 ∧ z_Ct l G m_X1_firstRow [.ref a0] h_5 (z_Qi (fun x_7 h_8 => (x_7 = 0 → Q (some (.int (-1))) h_8) ∧ (¬ x_7 = 0 → z_V l G m_X1_worth (z_Fm G m_X1_worth Q) 0 0 h_8 31 [some (.ref a0), some (.int x1), some (.int x2), some (.int 0), some (.int 0), none, none] [])))))))))) : z_Ct l G m_X1_worth [.ref a0, .int x1, .int x2] h Q := by
  refine z_Ct.of (ls := [some (.ref a0), some (.int x1), some (.int x2), none, none, none, none]) hst rfl (by decide +kernel) (z_le rfl) rfl ?_
  show z_V l G m_X1_worth (z_Fm G m_X1_worth Q) 1 8 h 0 [some (.ref a0), some (.int x1), some (.int x2), none, none, none, none] []
  refine z_aload_n (q := 1) (i := 0) (x := a0) dX1_worth_0 rfl rfl rfl ?_
  refine z_iload_n (q := 2) (i := 1) (x := x1) dX1_worth_1 rfl rfl rfl ?_
  obtain ⟨g_1, hf⟩ := hf
  refine z_cVi m_X1_isKind [.int x1] (a0) (q := 5) (rc2 := 1) (rs2 := 8) (st := []) dX1_worth_2 rfl q1250 oV_X1_isKind rfl rfl ⟨z_le rfl, z_le rfl⟩ (z_le rfl) (z_rcv_of 0 rfl (z_L0_T g_1) rfl) rfl  rfl hf (fun x_2 h_3 hf => ?_)
  refine z_if_eq (q := 8) (tgt := 24) dX1_worth_5 rfl rfl (fun hc => ?_) (fun hc => ?_)
  · have hf := hf.1 hc
    refine z_iconst (q := 25) (v := (-1)) dX1_worth_24 rfl rfl ?_
    exact z_iret dX1_worth_25 rfl hf
  · have hf := hf.2 hc
    refine z_iload_n (q := 9) (i := 2) (x := x2) dX1_worth_8 rfl rfl rfl ?_
    refine z_iconst (q := 10) (v := 0) dX1_worth_9 rfl rfl ?_
    refine z_iconst (q := 11) (v := 1) dX1_worth_10 rfl rfl ?_
    refine z_cSi m_X1_in [.int x2, .int 0, .int 1] (q := 14) (rc2 := 1) (rs2 := 8) (st := []) dX1_worth_11 rfl q1259 oS_X1_in rfl rfl ⟨z_le rfl, z_le rfl⟩ (z_le rfl) rfl  rfl hf (fun x_4 h_5 hf => ?_)
    refine z_if_eq (q := 17) (tgt := 24) dX1_worth_14 rfl rfl (fun hc => ?_) (fun hc => ?_)
    · have hf := hf.1 hc
      refine z_iconst (q := 25) (v := (-1)) dX1_worth_24 rfl rfl ?_
      exact z_iret dX1_worth_25 rfl hf
    · have hf := hf.2 hc
      refine z_aload_n (q := 18) (i := 0) (x := a0) dX1_worth_17 rfl rfl rfl ?_
      obtain ⟨g_6, hf⟩ := hf
      refine z_cVi m_X1_firstRow [] (a0) (q := 21) (rc2 := 0) (rs2 := 0) (st := []) dX1_worth_18 rfl q1449 oV_X1_firstRow rfl rfl ⟨z_le rfl, z_le rfl⟩ (z_le rfl) (z_rcv_of 0 rfl (z_L0_T g_6) rfl) rfl  rfl hf (fun x_7 h_8 hf => ?_)
      refine z_if_ne (q := 24) (tgt := 26) dX1_worth_21 rfl rfl (fun hc => ?_) (fun hc => ?_)
      · have hf := hf.2 hc
        refine z_iconst (q := 27) (v := 0) dX1_worth_26 rfl rfl ?_
        refine z_istore_n (q := 28) (i := 3) (ls2 := [some (.ref a0), some (.int x1), some (.int x2), some (.int 0), none, none, none]) (x := 0) dX1_worth_27 rfl (z_lt rfl) rfl rfl ?_
        refine z_iconst (q := 29) (v := 0) dX1_worth_28 rfl rfl ?_
        refine z_istore (q := 31) (i := 4) (ls2 := [some (.ref a0), some (.int x1), some (.int x2), some (.int 0), some (.int 0), none, none]) (x := 0) dX1_worth_29 (z_lt rfl) rfl rfl ?_
        exact hf
      · have hf := hf.1 hc
        refine z_iconst (q := 25) (v := (-1)) dX1_worth_24 rfl rfl ?_
        exact z_iret dX1_worth_25 rfl hf

theorem b_X1_worth_31 {l : Launch} {G : z_G} {rc rs : Nat} {a0 : Nat} {x1 : Int32} {x2 : Int32} {x3 : Int32} {x4 : Int32} {h : z_H} {Q : z_Q}  (hf : z_V l G m_X1_worth (z_Fm G m_X1_worth Q) rc rs h 37 [some (.ref a0), some (.int x1), some (.int x2), some (.int x3), some (.int x4), some (.int 0), some (.int 0)] []) : z_V l G m_X1_worth (z_Fm G m_X1_worth Q) rc rs h 31 [some (.ref a0), some (.int x1), some (.int x2), some (.int x3), some (.int x4), none, none] [] := by
  refine z_iconst (q := 32) (v := 0) dX1_worth_31 rfl rfl ?_
  refine z_istore (q := 34) (i := 5) (ls2 := [some (.ref a0), some (.int x1), some (.int x2), some (.int x3), some (.int x4), some (.int 0), none]) (x := 0) dX1_worth_32 (z_lt rfl) rfl rfl ?_
  refine z_iconst (q := 35) (v := 0) dX1_worth_34 rfl rfl ?_
  refine z_istore (q := 37) (i := 6) (ls2 := [some (.ref a0), some (.int x1), some (.int x2), some (.int x3), some (.int x4), some (.int 0), some (.int 0)]) (x := 0) dX1_worth_35 (z_lt rfl) rfl rfl ?_
  exact hf

theorem b_X1_worth_37 {l : Launch} {G : z_G} {rc rs : Nat} {a0 : Nat} {x1 : Int32} {x2 : Int32} {x3 : Int32} {x4 : Int32} {x5 : Int32} {x6 : Int32} {h : z_H} {Q : z_Q}  (hf : z_L0 h a0 ∧ ((h.I a0 16) ≤ x6 → (0 < x5 → ∃ b_2, (h.P a0 4) = some b_2 ∧ z_L8 h b_2 ∧ z_Ct l G m_X10_first [.ref b_2] h (z_Qi (fun x_5 h_6 => z_L0 h_6 a0 ∧ ∃ b_8, (h_6.P a0 4) = some b_8 ∧ z_L8 h_6 b_8 ∧ z_Ct l G m_X1_plays [.ref a0, .int x_5, .ref (b_8 + 3)] h_6 (z_Qv (fun h_11 => z_L0 h_11 a0 ∧ ((h_11.I (a0 + 9) 7) = 0 → z_Ct l G m_X1_nextRow [.ref a0] h_11 (z_Qi (fun x_15 h_16 => (x_15 = 0 → Q (some (.int (if x2 = 0 then (x3 + 1) else (x4 + 1)))) h_16) ∧ (¬ x_15 = 0 → z_V l G m_X1_worth (z_Fm G m_X1_worth Q) rc rs h_16 31 [some (.ref a0), some (.int x1), some (.int x2), some (.int (x3 + 1)), some (.int (x4 + 1)), none, none] [])))) ∧ (¬ (h_11.I (a0 + 9) 7) = 0 → z_Ct l G m_X1_nextRow [.ref a0] h_11 (z_Qi (fun x_13 h_14 => (x_13 = 0 → Q (some (.int (if x2 = 0 then x3 else (x4 + 1)))) h_14) ∧ (¬ x_13 = 0 → z_V l G m_X1_worth (z_Fm G m_X1_worth Q) rc rs h_14 31 [some (.ref a0), some (.int x1), some (.int x2), some (.int x3), some (.int (x4 + 1)), none, none] []))))))))) ∧ (¬ 0 < x5 → z_Ct l G m_X1_nextRow [.ref a0] h (z_Qi (fun x_17 h_18 => (x_17 = 0 → Q (some (.int (if x2 = 0 then x3 else x4))) h_18) ∧ (¬ x_17 = 0 → z_V l G m_X1_worth (z_Fm G m_X1_worth Q) rc rs h_18 31 [some (.ref a0), some (.int x1), some (.int x2), some (.int x3), some (.int x4), none, none] []))))) ∧ (¬ (h.I a0 16) ≤ x6 → vp_in x6 24 ∧ ((h.I (a0 + 55) (Int32.toNatClampNeg x6)) = x1 → ∀ v_20 : Int32, v_20 = (x5 + (if ((h.I a0 16) - ((h.I a0 16) / 2)) ≤ x6 then (-1) else 1)) → z_V l G m_X1_worth (z_Fm G m_X1_worth Q) rc rs h 37 [some (.ref a0), some (.int x1), some (.int x2), some (.int x3), some (.int x4), some (.int v_20), some (.int (x6 + 1))] []) ∧ (¬ (h.I (a0 + 55) (Int32.toNatClampNeg x6)) = x1 → z_V l G m_X1_worth (z_Fm G m_X1_worth Q) rc rs h 37 [some (.ref a0), some (.int x1), some (.int x2), some (.int x3), some (.int x4), some (.int x5), some (.int (x6 + 1))] []))) : z_V l G m_X1_worth (z_Fm G m_X1_worth Q) rc rs h 37 [some (.ref a0), some (.int x1), some (.int x2), some (.int x3), some (.int x4), some (.int x5), some (.int x6)] [] := by
  refine z_iload (q := 39) (i := 6) (x := x6) dX1_worth_37 rfl rfl ?_
  refine z_aload_n (q := 40) (i := 0) (x := a0) dX1_worth_39 rfl rfl rfl ?_
  obtain ⟨g_1, hf⟩ := hf
  refine z_get 0 16 (q := 43) (v := .int (h.I a0 16)) rfl (z_lt rfl) (z_L0_T g_1) q522 dX1_worth_40 rfl rfl ?_
  refine z_icmp_ge (q := 46) (tgt := 89) dX1_worth_43 rfl rfl (fun hc => ?_) (fun hc => ?_)
  · have hf := hf.1 hc
    refine z_iload (q := 91) (i := 5) (x := x5) dX1_worth_89 rfl rfl ?_
    refine z_if_gt (q := 94) (tgt := 97) dX1_worth_91 rfl rfl (fun hc => ?_) (fun hc => ?_)
    · have hf := hf.1 hc
      refine z_iinc (q := 100) (i := 4) (x := x4) (v := (x4 + 1)) (ls2 := [some (.ref a0), some (.int x1), some (.int x2), some (.int x3), some (.int (x4 + 1)), some (.int x5), some (.int x6)]) dX1_worth_97 rfl rfl (z_lt rfl) rfl rfl ?_
      refine z_aload_n (q := 101) (i := 0) (x := a0) dX1_worth_100 rfl rfl rfl ?_
      refine z_aload_n (q := 102) (i := 0) (x := a0) dX1_worth_101 rfl rfl rfl ?_
      obtain ⟨b_2, g_3, hf⟩ := hf
      refine z_get 0 4 (q := 105) (v := .ref b_2) rfl (z_lt rfl) (z_L0_T g_1) q510 dX1_worth_102 rfl (z_fvR (fun _ _ _ => rfl) g_3) ?_
      obtain ⟨g_4, hf⟩ := hf
      refine z_cVi m_X10_first [] (b_2) (q := 108) (rc2 := rc) (rs2 := rs) (st := [.ref a0]) dX1_worth_105 rfl q1180 oV_X10_first rfl rfl ⟨z_le rfl, z_le rfl⟩ (z_le rfl) (z_rcv_of 8 rfl (z_L8_T g_4) rfl) rfl  rfl hf (fun x_5 h_6 hf => ?_)
      refine z_aload_n (q := 109) (i := 0) (x := a0) dX1_worth_108 rfl rfl rfl ?_
      obtain ⟨g_7, hf⟩ := hf
      obtain ⟨b_8, g_9, hf⟩ := hf
      refine z_get 0 4 (q := 112) (v := .ref b_8) rfl (z_lt rfl) (z_L0_T g_7) q510 dX1_worth_109 rfl (z_fvR (fun _ _ _ => rfl) g_9) ?_
      obtain ⟨g_10, hf⟩ := hf
      refine z_getN 8 1 (q := 115) (v := .ref (b_8 + 3)) rfl (z_lt rfl) (z_L8_T g_10) (z_nwm q334 rfl) dX1_worth_112 rfl (z_fvR (fun _ _ _ => rfl) (z_L8_P1 g_10)) ?_
      refine z_cVv m_X1_plays [.int x_5, .ref (b_8 + 3)] (a0) (q := 118) (rc2 := rc) (rs2 := rs) (st := []) dX1_worth_115 rfl q1457 oV_X1_plays rfl rfl ⟨z_le rfl, z_le rfl⟩ (z_le rfl) (z_rcv_of 0 rfl (z_L0_T g_7) rfl) rfl  rfl hf (fun h_11 hf => ?_)
      refine z_aload_n (q := 119) (i := 0) (x := a0) dX1_worth_118 rfl rfl rfl ?_
      obtain ⟨g_12, hf⟩ := hf
      refine z_get 0 3 (q := 122) (v := .ref (a0 + 9)) rfl (z_lt rfl) (z_L0_T g_12) q508 dX1_worth_119 rfl (z_fvR (fun _ _ _ => rfl) (z_L0_P3 g_12)) ?_
      refine z_getN 7 7 (q := 125) (v := .int (h_11.I (a0 + 9) 7)) rfl (z_lt rfl) (z_L7_T (z_L0_N3 g_12)) (z_nwm q261 rfl) dX1_worth_122 rfl rfl ?_
      refine z_if_ne (q := 128) (tgt := 131) dX1_worth_125 rfl rfl (fun hc => ?_) (fun hc => ?_)
      · have hf := hf.2 hc
        refine z_aload_n (q := 132) (i := 0) (x := a0) dX1_worth_131 rfl rfl rfl ?_
        refine z_cVi m_X1_nextRow [] (a0) (q := 135) (rc2 := rc) (rs2 := rs) (st := []) dX1_worth_132 rfl q1465 oV_X1_nextRow rfl rfl ⟨z_le rfl, z_le rfl⟩ (z_le rfl) (z_rcv_of 0 rfl (z_L0_T g_12) rfl) rfl  rfl hf (fun x_13 h_14 hf => ?_)
        refine z_if_ne (q := 138) (tgt := 31) dX1_worth_135 rfl rfl (fun hc => ?_) (fun hc => ?_)
        · have hf := hf.2 hc
          refine z_prune [true, true, true, true, true, false, false] (ls2 := [some (.ref a0), some (.int x1), some (.int x2), some (.int x3), some (.int (x4 + 1)), none, none]) rfl ?_
          exact hf
        · have hf := hf.1 hc
          refine z_iload_n (q := 139) (i := 2) (x := x2) dX1_worth_138 rfl rfl rfl ?_
          have hk : z_V l G m_X1_worth (z_Fm G m_X1_worth Q) rc rs h_14 148 [some (.ref a0), some (.int x1), some (.int x2), some (.int x3), some (.int (x4 + 1)), some (.int x5), some (.int x6)] [.int (if x2 = 0 then x3 else (x4 + 1))] := by
            exact z_iret dX1_worth_148 rfl hf
          refine z_if_ne (q := 142) (tgt := 146) dX1_worth_139 rfl rfl (fun hc => ?_) (fun hc => ?_)
          · have hk := (z_ite hk).2 hc
            refine z_iload (q := 148) (i := 4) (x := (x4 + 1)) dX1_worth_146 rfl rfl ?_
            exact hk
          · have hk := (z_ite hk).1 hc
            refine z_iload_n (q := 143) (i := 3) (x := x3) dX1_worth_142 rfl rfl rfl ?_
            refine z_goto (q := 148) dX1_worth_143 rfl ?_
            exact hk
      · have hf := hf.1 hc
        refine z_iinc (q := 131) (i := 3) (x := x3) (v := (x3 + 1)) (ls2 := [some (.ref a0), some (.int x1), some (.int x2), some (.int (x3 + 1)), some (.int (x4 + 1)), some (.int x5), some (.int x6)]) dX1_worth_128 rfl rfl (z_lt rfl) rfl rfl ?_
        refine z_aload_n (q := 132) (i := 0) (x := a0) dX1_worth_131 rfl rfl rfl ?_
        refine z_cVi m_X1_nextRow [] (a0) (q := 135) (rc2 := rc) (rs2 := rs) (st := []) dX1_worth_132 rfl q1465 oV_X1_nextRow rfl rfl ⟨z_le rfl, z_le rfl⟩ (z_le rfl) (z_rcv_of 0 rfl (z_L0_T g_12) rfl) rfl  rfl hf (fun x_15 h_16 hf => ?_)
        refine z_if_ne (q := 138) (tgt := 31) dX1_worth_135 rfl rfl (fun hc => ?_) (fun hc => ?_)
        · have hf := hf.2 hc
          refine z_prune [true, true, true, true, true, false, false] (ls2 := [some (.ref a0), some (.int x1), some (.int x2), some (.int (x3 + 1)), some (.int (x4 + 1)), none, none]) rfl ?_
          exact hf
        · have hf := hf.1 hc
          refine z_iload_n (q := 139) (i := 2) (x := x2) dX1_worth_138 rfl rfl rfl ?_
          have hk : z_V l G m_X1_worth (z_Fm G m_X1_worth Q) rc rs h_16 148 [some (.ref a0), some (.int x1), some (.int x2), some (.int (x3 + 1)), some (.int (x4 + 1)), some (.int x5), some (.int x6)] [.int (if x2 = 0 then (x3 + 1) else (x4 + 1))] := by
            exact z_iret dX1_worth_148 rfl hf
          refine z_if_ne (q := 142) (tgt := 146) dX1_worth_139 rfl rfl (fun hc => ?_) (fun hc => ?_)
          · have hk := (z_ite hk).2 hc
            refine z_iload (q := 148) (i := 4) (x := (x4 + 1)) dX1_worth_146 rfl rfl ?_
            exact hk
          · have hk := (z_ite hk).1 hc
            refine z_iload_n (q := 143) (i := 3) (x := (x3 + 1)) dX1_worth_142 rfl rfl rfl ?_
            refine z_goto (q := 148) dX1_worth_143 rfl ?_
            exact hk
    · have hf := hf.2 hc
      refine z_goto (q := 131) dX1_worth_94 rfl ?_
      refine z_aload_n (q := 132) (i := 0) (x := a0) dX1_worth_131 rfl rfl rfl ?_
      refine z_cVi m_X1_nextRow [] (a0) (q := 135) (rc2 := rc) (rs2 := rs) (st := []) dX1_worth_132 rfl q1465 oV_X1_nextRow rfl rfl ⟨z_le rfl, z_le rfl⟩ (z_le rfl) (z_rcv_of 0 rfl (z_L0_T g_1) rfl) rfl  rfl hf (fun x_17 h_18 hf => ?_)
      refine z_if_ne (q := 138) (tgt := 31) dX1_worth_135 rfl rfl (fun hc => ?_) (fun hc => ?_)
      · have hf := hf.2 hc
        refine z_prune [true, true, true, true, true, false, false] (ls2 := [some (.ref a0), some (.int x1), some (.int x2), some (.int x3), some (.int x4), none, none]) rfl ?_
        exact hf
      · have hf := hf.1 hc
        refine z_iload_n (q := 139) (i := 2) (x := x2) dX1_worth_138 rfl rfl rfl ?_
        have hk : z_V l G m_X1_worth (z_Fm G m_X1_worth Q) rc rs h_18 148 [some (.ref a0), some (.int x1), some (.int x2), some (.int x3), some (.int x4), some (.int x5), some (.int x6)] [.int (if x2 = 0 then x3 else x4)] := by
          exact z_iret dX1_worth_148 rfl hf
        refine z_if_ne (q := 142) (tgt := 146) dX1_worth_139 rfl rfl (fun hc => ?_) (fun hc => ?_)
        · have hk := (z_ite hk).2 hc
          refine z_iload (q := 148) (i := 4) (x := x4) dX1_worth_146 rfl rfl ?_
          exact hk
        · have hk := (z_ite hk).1 hc
          refine z_iload_n (q := 143) (i := 3) (x := x3) dX1_worth_142 rfl rfl rfl ?_
          refine z_goto (q := 148) dX1_worth_143 rfl ?_
          exact hk
  · have hf := hf.2 hc
    refine z_aload_n (q := 47) (i := 0) (x := a0) dX1_worth_46 rfl rfl rfl ?_
    refine z_get 0 15 (q := 50) (v := .ref (a0 + 55)) rfl (z_lt rfl) (z_L0_T g_1) q521 dX1_worth_47 rfl (z_fvR (fun _ _ _ => rfl) (z_L0_P15 g_1)) ?_
    refine z_iload (q := 52) (i := 6) (x := x6) dX1_worth_50 rfl rfl ?_
    obtain ⟨g_19, hf⟩ := hf
    refine z_iald (q := 53) (n := 24) (z_L0_A15 g_1) g_19 dX1_worth_52 rfl ?_
    refine z_iload_n (q := 54) (i := 1) (x := x1) dX1_worth_53 rfl rfl rfl ?_
    refine z_icmp_ne (q := 57) (tgt := 83) dX1_worth_54 rfl rfl (fun hc => ?_) (fun hc => ?_)
    · have hf := hf.2 hc
      refine z_iinc (q := 86) (i := 6) (x := x6) (v := (x6 + 1)) (ls2 := [some (.ref a0), some (.int x1), some (.int x2), some (.int x3), some (.int x4), some (.int x5), some (.int (x6 + 1))]) dX1_worth_83 rfl rfl (z_lt rfl) rfl rfl ?_
      refine z_goto (q := 37) dX1_worth_86 rfl ?_
      exact hf
    · have hf := hf.1 hc
      refine z_iload (q := 59) (i := 5) (x := x5) dX1_worth_57 rfl rfl ?_
      refine z_iload (q := 61) (i := 6) (x := x6) dX1_worth_59 rfl rfl ?_
      refine z_aload_n (q := 62) (i := 0) (x := a0) dX1_worth_61 rfl rfl rfl ?_
      refine z_get 0 16 (q := 65) (v := .int (h.I a0 16)) rfl (z_lt rfl) (z_L0_T g_1) q522 dX1_worth_62 rfl rfl ?_
      refine z_aload_n (q := 66) (i := 0) (x := a0) dX1_worth_65 rfl rfl rfl ?_
      refine z_get 0 16 (q := 69) (v := .int (h.I a0 16)) rfl (z_lt rfl) (z_L0_T g_1) q522 dX1_worth_66 rfl rfl ?_
      refine z_iconst (q := 70) (v := 2) dX1_worth_69 rfl rfl ?_
      refine z_idiv (q := 71) dX1_worth_70 (by decide) rfl ?_
      refine z_isub (q := 72) dX1_worth_71 rfl ?_
      have hk : z_V l G m_X1_worth (z_Fm G m_X1_worth Q) rc rs h 80 [some (.ref a0), some (.int x1), some (.int x2), some (.int x3), some (.int x4), some (.int x5), some (.int x6)] [.int (if ((h.I a0 16) - ((h.I a0 16) / 2)) ≤ x6 then (-1) else 1), .int x5] := by
        refine z_iadd (q := 81) dX1_worth_80 rfl ?_
        refine z_nmI (fun v_20 hv_21 => ?_)
        have hf := hf v_20 hv_21
        refine z_istore (q := 83) (i := 5) (ls2 := [some (.ref a0), some (.int x1), some (.int x2), some (.int x3), some (.int x4), some (.int v_20), some (.int x6)]) (x := v_20) dX1_worth_81 (z_lt rfl) rfl rfl ?_
        refine z_iinc (q := 86) (i := 6) (x := x6) (v := (x6 + 1)) (ls2 := [some (.ref a0), some (.int x1), some (.int x2), some (.int x3), some (.int x4), some (.int v_20), some (.int (x6 + 1))]) dX1_worth_83 rfl rfl (z_lt rfl) rfl rfl ?_
        refine z_goto (q := 37) dX1_worth_86 rfl ?_
        exact hf
      refine z_icmp_ge (q := 75) (tgt := 79) dX1_worth_72 rfl rfl (fun hc => ?_) (fun hc => ?_)
      · have hk := (z_ite hk).1 hc
        refine z_iconst (q := 80) (v := (-1)) dX1_worth_79 rfl rfl ?_
        exact hk
      · have hk := (z_ite hk).2 hc
        refine z_iconst (q := 76) (v := 1) dX1_worth_75 rfl rfl ?_
        refine z_goto (q := 80) dX1_worth_76 rfl ?_
        exact hk

