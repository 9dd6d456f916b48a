set_option maxRecDepth 100000
set_option maxHeartbeats 4000000
theorem u_X1_again {l : Launch} {G : z_G} {a0 : Nat} {h : z_H} {Q : z_Q} (hst : l.stackTraces = false)  (hf : z_L0 h a0 ∧ ((h.I a0 12) = 0 → Q (some (.int 0)) h) ∧ (¬ (h.I a0 12) = 0 → z_Ct l G m_X1_begins [.ref a0] h (z_Qv (fun h_2 => Q (some (.int 1)) h_2)))) : z_Ct l G m_X1_again [.ref a0] h Q := by
  refine z_Ct.of (ls := [some (.ref a0)]) hst rfl (by show plainName yX1_again.cls = true; decide +kernel) (z_le rfl) rfl ?_
  show z_V l G m_X1_again (z_Fm G m_X1_again Q) 0 0 h 0 [some (.ref a0)] []
  refine z_aload_n (q := 1) (i := 0) (x := a0) dX1_again_0 rfl rfl rfl ?_
  obtain ⟨g_1, hf⟩ := hf
  refine z_get 0 12 (q := 4) (v := .int (h.I a0 12)) rfl (z_lt rfl) (z_L0_T g_1) q518 dX1_again_1 rfl rfl ?_
  refine z_if_ne (q := 7) (tgt := 9) dX1_again_4 rfl rfl (fun hc => ?_) (fun hc => ?_)
  · have hf := hf.2 hc
    refine z_aload_n (q := 10) (i := 0) (x := a0) dX1_again_9 rfl rfl rfl ?_
    refine z_cVv m_X1_begins [] (a0) (q := 13) (rc2 := 0) (rs2 := 0) (st := []) dX1_again_10 rfl q1176 oV_X1_begins rfl rfl ⟨z_le rfl, z_le rfl⟩ (z_le rfl) (z_rcv_of 0 rfl (z_L0_T g_1) rfl) rfl  rfl hf (fun h_2 hf => ?_)
    refine z_iconst (q := 14) (v := 1) dX1_again_13 rfl rfl ?_
    exact z_zret dX1_again_14 rfl (z_nb01 z_b1) hf
  · have hf := hf.1 hc
    refine z_iconst (q := 8) (v := 0) dX1_again_7 rfl rfl ?_
    exact z_zret dX1_again_8 rfl (z_nb01 z_b0) hf

theorem u_X1_all {l : Launch} {G : z_G} {a0 : Nat} {x1 : Int32} {h : z_H} {Q : z_Q} (hst : l.stackTraces = false)  (hf : z_Ct l G m_X1_in [.int x1, .int 0, .int 6] h (z_Qi (fun x_1 h_2 => (x_1 = 0 → Q (some (.int (-1))) h_2) ∧ (¬ x_1 = 0 → z_L0 h_2 a0 ∧ z_Ct l G m_X1_firstRow [.ref a0] h_2 (z_Qi (fun x_4 h_5 => (x_4 = 0 → Q (some (.int (-1))) h_5) ∧ (¬ x_4 = 0 → z_V l G m_X1_all (z_Fm G m_X1_all Q) 0 0 (h_5.nw (1, 4)) 31 [some (.ref a0), some (.int x1), some (.ref (h_5.n)), some (.int 0), some (.int 0), some (.int (-1))] []))))))) : z_Ct l G m_X1_all [.ref a0, .int x1] h Q := by
  refine z_Ct.of (ls := [some (.ref a0), some (.int x1), none, none, none, none]) hst rfl (by show plainName yX1_all.cls = true; decide +kernel) (z_le rfl) rfl ?_
  show z_V l G m_X1_all (z_Fm G m_X1_all Q) 2 12 h 0 [some (.ref a0), some (.int x1), none, none, none, none] []
  refine z_iload_n (q := 1) (i := 1) (x := x1) dX1_all_0 rfl rfl rfl ?_
  refine z_iconst (q := 2) (v := 0) dX1_all_1 rfl rfl ?_
  refine z_bipush (q := 4) (v := 6) dX1_all_2 (by decide) rfl ?_
  refine z_cSi m_X1_in [.int x1, .int 0, .int 6] (q := 7) (rc2 := 2) (rs2 := 12) (st := []) dX1_all_4 rfl q1259 oS_X1_in rfl rfl ⟨z_le rfl, z_le rfl⟩ (z_le rfl) rfl  rfl hf (fun x_1 h_2 hf => ?_)
  refine z_if_eq (q := 10) (tgt := 17) dX1_all_7 rfl rfl (fun hc => ?_) (fun hc => ?_)
  · have hf := hf.1 hc
    refine z_iconst (q := 18) (v := (-1)) dX1_all_17 rfl rfl ?_
    exact z_iret dX1_all_18 rfl hf
  · have hf := hf.2 hc
    refine z_aload_n (q := 11) (i := 0) (x := a0) dX1_all_10 rfl rfl rfl ?_
    obtain ⟨g_3, hf⟩ := hf
    refine z_cVi m_X1_firstRow [] (a0) (q := 14) (rc2 := 1) (rs2 := 4) (st := []) dX1_all_11 rfl q1449 oV_X1_firstRow rfl rfl ⟨z_le rfl, z_le rfl⟩ (z_le rfl) (z_rcv_of 0 rfl (z_L0_T g_3) rfl) rfl  rfl hf (fun x_4 h_5 hf => ?_)
    refine z_if_ne (q := 17) (tgt := 19) dX1_all_14 rfl rfl (fun hc => ?_) (fun hc => ?_)
    · have hf := hf.2 hc
      refine z_iconst (q := 20) (v := 4) dX1_all_19 rfl rfl ?_
      refine z_newa 1 (q := 22) (N := 4) (rc2 := 0) (rs2 := 0) (z_lt rfl) (z_lt rfl) rfl q295 (by decide) rfl (z_le rfl) dX1_all_20 rfl rfl rfl ?_
      refine z_astore_n (q := 23) (i := 2) (ls2 := [some (.ref a0), some (.int x1), some (.ref (h_5.n)), none, none, none]) (x := (h_5.n)) dX1_all_22 rfl (z_lt rfl) rfl rfl ?_
      refine z_iconst (q := 24) (v := 0) dX1_all_23 rfl rfl ?_
      refine z_istore_n (q := 25) (i := 3) (ls2 := [some (.ref a0), some (.int x1), some (.ref (h_5.n)), some (.int 0), none, none]) (x := 0) dX1_all_24 rfl (z_lt rfl) rfl rfl ?_
      refine z_iconst (q := 26) (v := 0) dX1_all_25 rfl rfl ?_
      refine z_istore (q := 28) (i := 4) (ls2 := [some (.ref a0), some (.int x1), some (.ref (h_5.n)), some (.int 0), some (.int 0), none]) (x := 0) dX1_all_26 (z_lt rfl) rfl rfl ?_
      refine z_iconst (q := 29) (v := (-1)) dX1_all_28 rfl rfl ?_
      refine z_istore (q := 31) (i := 5) (ls2 := [some (.ref a0), some (.int x1), some (.ref (h_5.n)), some (.int 0), some (.int 0), some (.int (-1))]) (x := (-1)) dX1_all_29 (z_lt rfl) rfl rfl ?_
      exact hf
    · have hf := hf.1 hc
      refine z_iconst (q := 18) (v := (-1)) dX1_all_17 rfl rfl ?_
      exact z_iret dX1_all_18 rfl hf

theorem b_X1_all_31 {l : Launch} {G : z_G} {rc rs : Nat} {a0 : Nat} {x1 : Int32} {a2 : Nat} {x3 : Int32} {x4 : Int32} {x5 : Int32} {h : z_H} {Q : z_Q}  (hf : z_L0 h a0 ∧ ∃ b_2, (h.P a0 4) = some b_2 ∧ z_L8 h b_2 ∧ z_Ct l G m_X10_first [.ref b_2] h (z_Qi (fun x_5 h_6 => z_L0 h_6 a0 ∧ ∃ b_8, (h_6.P a0 4) = some b_8 ∧ z_L8 h_6 b_8 ∧ z_Ct l G m_X1_plays [.ref a0, .int x_5, .ref (b_8 + 3)] h_6 (z_Qv (fun h_11 => z_L0 h_11 a0 ∧ ∃ n_13, h_11.T a2 = (1, n_13) ∧ vp_in (h_11.I (a0 + 9) 7) n_13 ∧ vp_in (h_11.I (a0 + 9) 7) n_13 ∧ (2 ≤ ((h_11.sI a2 (Int32.toNatClampNeg (h_11.I (a0 + 9) 7)) ((h_11.I a2 (Int32.toNatClampNeg (h_11.I (a0 + 9) 7))) + 1)).I (a0 + 9) 7) → z_V l G m_X1_all (z_Fm G m_X1_all Q) rc rs (h_11.sI a2 (Int32.toNatClampNeg (h_11.I (a0 + 9) 7)) ((h_11.I a2 (Int32.toNatClampNeg (h_11.I (a0 + 9) 7))) + 1)) 102 [some (.ref a0), some (.int x1), some (.ref a2), some (.int x3), some (.int x4), some (.int x5)] []) ∧ (¬ 2 ≤ ((h_11.sI a2 (Int32.toNatClampNeg (h_11.I (a0 + 9) 7)) ((h_11.I a2 (Int32.toNatClampNeg (h_11.I (a0 + 9) 7))) + 1)).I (a0 + 9) 7) → (x5 < 0 → ∀ v_17 : Int32, v_17 = ((h_11.sI a2 (Int32.toNatClampNeg (h_11.I (a0 + 9) 7)) ((h_11.I a2 (Int32.toNatClampNeg (h_11.I (a0 + 9) 7))) + 1)).I (a0 + 9) 8) → z_V l G m_X1_all (z_Fm G m_X1_all Q) rc rs (h_11.sI a2 (Int32.toNatClampNeg (h_11.I (a0 + 9) 7)) ((h_11.I a2 (Int32.toNatClampNeg (h_11.I (a0 + 9) 7))) + 1)) 102 [some (.ref a0), some (.int x1), some (.ref a2), some (.int x3), some (.int v_17), some (.int x3)] []) ∧ (¬ x5 < 0 → (((h_11.sI a2 (Int32.toNatClampNeg (h_11.I (a0 + 9) 7)) ((h_11.I a2 (Int32.toNatClampNeg (h_11.I (a0 + 9) 7))) + 1)).I (a0 + 9) 8) ≤ x4 → z_V l G m_X1_all (z_Fm G m_X1_all Q) rc rs (h_11.sI a2 (Int32.toNatClampNeg (h_11.I (a0 + 9) 7)) ((h_11.I a2 (Int32.toNatClampNeg (h_11.I (a0 + 9) 7))) + 1)) 102 [some (.ref a0), some (.int x1), some (.ref a2), some (.int x3), some (.int x4), some (.int x5)] []) ∧ (¬ ((h_11.sI a2 (Int32.toNatClampNeg (h_11.I (a0 + 9) 7)) ((h_11.I a2 (Int32.toNatClampNeg (h_11.I (a0 + 9) 7))) + 1)).I (a0 + 9) 8) ≤ x4 → ∀ v_19 : Int32, v_19 = ((h_11.sI a2 (Int32.toNatClampNeg (h_11.I (a0 + 9) 7)) ((h_11.I a2 (Int32.toNatClampNeg (h_11.I (a0 + 9) 7))) + 1)).I (a0 + 9) 8) → z_V l G m_X1_all (z_Fm G m_X1_all Q) rc rs (h_11.sI a2 (Int32.toNatClampNeg (h_11.I (a0 + 9) 7)) ((h_11.I a2 (Int32.toNatClampNeg (h_11.I (a0 + 9) 7))) + 1)) 102 [some (.ref a0), some (.int x1), some (.ref a2), some (.int x3), some (.int v_19), some (.int x3)] [])))))))) : z_V l G m_X1_all (z_Fm G m_X1_all Q) rc rs h 31 [some (.ref a0), some (.int x1), some (.ref a2), some (.int x3), some (.int x4), some (.int x5)] [] := by
  refine z_aload_n (q := 32) (i := 0) (x := a0) dX1_all_31 rfl rfl rfl ?_
  refine z_aload_n (q := 33) (i := 0) (x := a0) dX1_all_32 rfl rfl rfl ?_
  obtain ⟨g_1, hf⟩ := hf
  obtain ⟨b_2, g_3, hf⟩ := hf
  refine z_get 0 4 (q := 36) (v := .ref b_2) rfl (z_lt rfl) (z_L0_T g_1) q510 dX1_all_33 rfl (z_fvR (fun _ _ _ => rfl) g_3) ?_
  obtain ⟨g_4, hf⟩ := hf
  refine z_cVi m_X10_first [] (b_2) (q := 39) (rc2 := rc) (rs2 := rs) (st := [.ref a0]) dX1_all_36 rfl q1180 oV_X10_first rfl rfl ⟨z_le rfl, z_le rfl⟩ (z_le rfl) (z_rcv_of 8 rfl (z_L8_T g_4) rfl) rfl  rfl hf (fun x_5 h_6 hf => ?_)
  refine z_aload_n (q := 40) (i := 0) (x := a0) dX1_all_39 rfl rfl rfl ?_
  obtain ⟨g_7, hf⟩ := hf
  obtain ⟨b_8, g_9, hf⟩ := hf
  refine z_get 0 4 (q := 43) (v := .ref b_8) rfl (z_lt rfl) (z_L0_T g_7) q510 dX1_all_40 rfl (z_fvR (fun _ _ _ => rfl) g_9) ?_
  obtain ⟨g_10, hf⟩ := hf
  refine z_getN 8 1 (q := 46) (v := .ref (b_8 + 3)) rfl (z_lt rfl) (z_L8_T g_10) (z_nwm q334 rfl) dX1_all_43 rfl (z_fvR (fun _ _ _ => rfl) (z_L8_P1 g_10)) ?_
  refine z_cVv m_X1_plays [.int x_5, .ref (b_8 + 3)] (a0) (q := 49) (rc2 := rc) (rs2 := rs) (st := []) dX1_all_46 rfl q1457 oV_X1_plays rfl rfl ⟨z_le rfl, z_le rfl⟩ (z_le rfl) (z_rcv_of 0 rfl (z_L0_T g_7) rfl) rfl  rfl hf (fun h_11 hf => ?_)
  refine z_aload_n (q := 50) (i := 2) (x := a2) dX1_all_49 rfl rfl rfl ?_
  refine z_aload_n (q := 51) (i := 0) (x := a0) dX1_all_50 rfl rfl rfl ?_
  obtain ⟨g_12, hf⟩ := hf
  refine z_get 0 3 (q := 54) (v := .ref (a0 + 9)) rfl (z_lt rfl) (z_L0_T g_12) q508 dX1_all_51 rfl (z_fvR (fun _ _ _ => rfl) (z_L0_P3 g_12)) ?_
  refine z_getN 7 7 (q := 57) (v := .int (h_11.I (a0 + 9) 7)) rfl (z_lt rfl) (z_L7_T (z_L0_N3 g_12)) (z_nwm q261 rfl) dX1_all_54 rfl rfl ?_
  refine z_dup2 (q := 58) dX1_all_57 rfl rfl rfl ?_
  obtain ⟨n_13, g_14, hf⟩ := hf
  obtain ⟨g_15, hf⟩ := hf
  refine z_iald (q := 59) (n := n_13) g_14 g_15 dX1_all_58 rfl ?_
  refine z_iconst (q := 60) (v := 1) dX1_all_59 rfl rfl ?_
  refine z_iadd (q := 61) dX1_all_60 rfl ?_
  obtain ⟨g_16, hf⟩ := hf
  refine z_iast (q := 62) (n := n_13) g_14 g_16 dX1_all_61 rfl ?_
  refine z_aload_n (q := 63) (i := 0) (x := a0) dX1_all_62 rfl rfl rfl ?_
  refine z_get 0 3 (q := 66) (v := .ref (a0 + 9)) rfl (z_lt rfl) (z_L0_T g_12) q508 dX1_all_63 rfl (z_fvR (fun _ _ _ => rfl) (z_L0_P3 g_12)) ?_
  refine z_getN 7 7 (q := 69) (v := .int ((h_11.sI a2 (Int32.toNatClampNeg (h_11.I (a0 + 9) 7)) ((h_11.I a2 (Int32.toNatClampNeg (h_11.I (a0 + 9) 7))) + 1)).I (a0 + 9) 7)) rfl (z_lt rfl) (z_L7_T (z_L0_N3 g_12)) (z_nwm q261 rfl) dX1_all_66 rfl rfl ?_
  refine z_iconst (q := 70) (v := 2) dX1_all_69 rfl rfl ?_
  refine z_icmp_ge (q := 73) (tgt := 102) dX1_all_70 rfl rfl (fun hc => ?_) (fun hc => ?_)
  · have hf := hf.1 hc
    exact hf
  · have hf := hf.2 hc
    refine z_iload (q := 75) (i := 5) (x := x5) dX1_all_73 rfl rfl ?_
    refine z_if_lt (q := 78) (tgt := 90) dX1_all_75 rfl rfl (fun hc => ?_) (fun hc => ?_)
    · have hf := hf.1 hc
      refine z_aload_n (q := 91) (i := 0) (x := a0) dX1_all_90 rfl rfl rfl ?_
      refine z_get 0 3 (q := 94) (v := .ref (a0 + 9)) rfl (z_lt rfl) (z_L0_T g_12) q508 dX1_all_91 rfl (z_fvR (fun _ _ _ => rfl) (z_L0_P3 g_12)) ?_
      refine z_getN 7 8 (q := 97) (v := .int ((h_11.sI a2 (Int32.toNatClampNeg (h_11.I (a0 + 9) 7)) ((h_11.I a2 (Int32.toNatClampNeg (h_11.I (a0 + 9) 7))) + 1)).I (a0 + 9) 8)) rfl (z_lt rfl) (z_L7_T (z_L0_N3 g_12)) (z_nwm q263 rfl) dX1_all_94 rfl rfl ?_
      refine z_nmI (fun v_17 hv_18 => ?_)
      have hf := hf v_17 hv_18
      refine z_istore (q := 99) (i := 4) (ls2 := [some (.ref a0), some (.int x1), some (.ref a2), some (.int x3), some (.int v_17), some (.int x5)]) (x := v_17) dX1_all_97 (z_lt rfl) rfl rfl ?_
      refine z_iload_n (q := 100) (i := 3) (x := x3) dX1_all_99 rfl rfl rfl ?_
      refine z_istore (q := 102) (i := 5) (ls2 := [some (.ref a0), some (.int x1), some (.ref a2), some (.int x3), some (.int v_17), some (.int x3)]) (x := x3) dX1_all_100 (z_lt rfl) rfl rfl ?_
      exact hf
    · have hf := hf.2 hc
      refine z_aload_n (q := 79) (i := 0) (x := a0) dX1_all_78 rfl rfl rfl ?_
      refine z_get 0 3 (q := 82) (v := .ref (a0 + 9)) rfl (z_lt rfl) (z_L0_T g_12) q508 dX1_all_79 rfl (z_fvR (fun _ _ _ => rfl) (z_L0_P3 g_12)) ?_
      refine z_getN 7 8 (q := 85) (v := .int ((h_11.sI a2 (Int32.toNatClampNeg (h_11.I (a0 + 9) 7)) ((h_11.I a2 (Int32.toNatClampNeg (h_11.I (a0 + 9) 7))) + 1)).I (a0 + 9) 8)) rfl (z_lt rfl) (z_L7_T (z_L0_N3 g_12)) (z_nwm q263 rfl) dX1_all_82 rfl rfl ?_
      refine z_iload (q := 87) (i := 4) (x := x4) dX1_all_85 rfl rfl ?_
      refine z_icmp_le (q := 90) (tgt := 102) dX1_all_87 rfl rfl (fun hc => ?_) (fun hc => ?_)
      · have hf := hf.1 hc
        exact hf
      · have hf := hf.2 hc
        refine z_aload_n (q := 91) (i := 0) (x := a0) dX1_all_90 rfl rfl rfl ?_
        refine z_get 0 3 (q := 94) (v := .ref (a0 + 9)) rfl (z_lt rfl) (z_L0_T g_12) q508 dX1_all_91 rfl (z_fvR (fun _ _ _ => rfl) (z_L0_P3 g_12)) ?_
        refine z_getN 7 8 (q := 97) (v := .int ((h_11.sI a2 (Int32.toNatClampNeg (h_11.I (a0 + 9) 7)) ((h_11.I a2 (Int32.toNatClampNeg (h_11.I (a0 + 9) 7))) + 1)).I (a0 + 9) 8)) rfl (z_lt rfl) (z_L7_T (z_L0_N3 g_12)) (z_nwm q263 rfl) dX1_all_94 rfl rfl ?_
        refine z_nmI (fun v_19 hv_20 => ?_)
        have hf := hf v_19 hv_20
        refine z_istore (q := 99) (i := 4) (ls2 := [some (.ref a0), some (.int x1), some (.ref a2), some (.int x3), some (.int v_19), some (.int x5)]) (x := v_19) dX1_all_97 (z_lt rfl) rfl rfl ?_
        refine z_iload_n (q := 100) (i := 3) (x := x3) dX1_all_99 rfl rfl rfl ?_
        refine z_istore (q := 102) (i := 5) (ls2 := [some (.ref a0), some (.int x1), some (.ref a2), some (.int x3), some (.int v_19), some (.int x3)]) (x := x3) dX1_all_100 (z_lt rfl) rfl rfl ?_
        exact hf

theorem b_X1_all_102 {l : Launch} {G : z_G} {rc rs : Nat} {a0 : Nat} {x1 : Int32} {a2 : Nat} {x3 : Int32} {x4 : Int32} {x5 : Int32} {h : z_H} {Q : z_Q}  (hf : z_L0 h a0 ∧ z_Ct l G m_X1_nextRow [.ref a0] h (z_Qi (fun x_2 h_3 => (x_2 = 0 → (x1 = 0 → Q (some (.int (x3 + 1))) h_3) ∧ (¬ x1 = 0 → (5 ≤ x1 → Q (some (.int (if x1 = 5 then x4 else x5))) h_3) ∧ (¬ 5 ≤ x1 → ∃ n_10, h_3.T a2 = (1, n_10) ∧ vp_in (x1 - 1) n_10 ∧ Q (some (.int (h_3.I a2 (Int32.toNatClampNeg (x1 - 1))))) h_3))) ∧ (¬ x_2 = 0 → z_V l G m_X1_all (z_Fm G m_X1_all Q) rc rs h_3 31 [some (.ref a0), some (.int x1), some (.ref a2), some (.int (x3 + 1)), some (.int x4), some (.int x5)] [])))) : z_V l G m_X1_all (z_Fm G m_X1_all Q) rc rs h 102 [some (.ref a0), some (.int x1), some (.ref a2), some (.int x3), some (.int x4), some (.int x5)] [] := by
  refine z_iinc (q := 105) (i := 3) (x := x3) (v := (x3 + 1)) (ls2 := [some (.ref a0), some (.int x1), some (.ref a2), some (.int (x3 + 1)), some (.int x4), some (.int x5)]) dX1_all_102 rfl rfl (z_lt rfl) rfl rfl ?_
  refine z_aload_n (q := 106) (i := 0) (x := a0) dX1_all_105 rfl rfl rfl ?_
  obtain ⟨g_1, hf⟩ := hf
  refine z_cVi m_X1_nextRow [] (a0) (q := 109) (rc2 := rc) (rs2 := rs) (st := []) dX1_all_106 rfl q1465 oV_X1_nextRow rfl rfl ⟨z_le rfl, z_le rfl⟩ (z_le rfl) (z_rcv_of 0 rfl (z_L0_T g_1) rfl) rfl  rfl hf (fun x_2 h_3 hf => ?_)
  refine z_if_ne (q := 112) (tgt := 31) dX1_all_109 rfl rfl (fun hc => ?_) (fun hc => ?_)
  · have hf := hf.2 hc
    exact hf
  · have hf := hf.1 hc
    refine z_iload_n (q := 113) (i := 1) (x := x1) dX1_all_112 rfl rfl rfl ?_
    refine z_if_ne (q := 116) (tgt := 120) dX1_all_113 rfl rfl (fun hc => ?_) (fun hc => ?_)
    · have hf := hf.2 hc
      refine z_iload_n (q := 121) (i := 1) (x := x1) dX1_all_120 rfl rfl rfl ?_
      refine z_iconst (q := 122) (v := 5) dX1_all_121 rfl rfl ?_
      refine z_icmp_ge (q := 125) (tgt := 133) dX1_all_122 rfl rfl (fun hc => ?_) (fun hc => ?_)
      · have hf := hf.1 hc
        refine z_iload_n (q := 134) (i := 1) (x := x1) dX1_all_133 rfl rfl rfl ?_
        refine z_iconst (q := 135) (v := 5) dX1_all_134 rfl rfl ?_
        have hk : z_V l G m_X1_all (z_Fm G m_X1_all Q) rc rs h_3 145 [some (.ref a0), some (.int x1), some (.ref a2), some (.int (x3 + 1)), some (.int x4), some (.int x5)] [.int (if x1 = 5 then x4 else x5)] := by
          exact z_iret dX1_all_145 rfl hf
        refine z_icmp_ne (q := 138) (tgt := 143) dX1_all_135 rfl rfl (fun hc => ?_) (fun hc => ?_)
        · have hk := (z_ite hk).2 hc
          refine z_iload (q := 145) (i := 5) (x := x5) dX1_all_143 rfl rfl ?_
          exact hk
        · have hk := (z_ite hk).1 hc
          refine z_iload (q := 140) (i := 4) (x := x4) dX1_all_138 rfl rfl ?_
          refine z_goto (q := 145) dX1_all_140 rfl ?_
          exact hk
      · have hf := hf.2 hc
        refine z_aload_n (q := 126) (i := 2) (x := a2) dX1_all_125 rfl rfl rfl ?_
        refine z_iload_n (q := 127) (i := 1) (x := x1) dX1_all_126 rfl rfl rfl ?_
        refine z_iconst (q := 128) (v := 1) dX1_all_127 rfl rfl ?_
        refine z_isub (q := 129) dX1_all_128 rfl ?_
        obtain ⟨n_10, g_11, hf⟩ := hf
        obtain ⟨g_12, hf⟩ := hf
        refine z_iald (q := 130) (n := n_10) g_11 g_12 dX1_all_129 rfl ?_
        refine z_goto (q := 145) dX1_all_130 rfl ?_
        exact z_iret dX1_all_145 rfl hf
    · have hf := hf.1 hc
      refine z_iload_n (q := 117) (i := 3) (x := (x3 + 1)) dX1_all_116 rfl rfl rfl ?_
      refine z_goto (q := 145) dX1_all_117 rfl ?_
      exact z_iret dX1_all_145 rfl hf

theorem u_X1_allOrders {l : Launch} {G : z_G}  {h : z_H} {Q : z_Q} (hst : l.stackTraces = false)  (hf : z_Ct l G m_X4_init [.ref (h.n + 1)] ((h.nw (6, 5)).nw (12, 0)) (z_Qv (fun h_1 => ∃ n_2, h_1.T (h.n) = (6, n_2) ∧ vp_in 0 n_2 ∧ (h_1.T (h.n + 1)).1 = 12 ∧ z_Ct l G m_X5_init [.ref (h_1.n)] ((h_1.sP (h.n) (Int32.toNatClampNeg 0) (some (h.n + 1))).nw (13, 0)) (z_Qv (fun h_6 => ∃ n_7, h_6.T (h.n) = (6, n_7) ∧ vp_in 1 n_7 ∧ (h_6.T (h_1.n)).1 = 13 ∧ z_Ct l G m_X6_init [.ref (h_6.n)] ((h_6.sP (h.n) (Int32.toNatClampNeg 1) (some (h_1.n))).nw (14, 0)) (z_Qv (fun h_11 => ∃ n_12, h_11.T (h.n) = (6, n_12) ∧ vp_in 2 n_12 ∧ (h_11.T (h_6.n)).1 = 14 ∧ z_Ct l G m_X7_init [.ref (h_11.n)] ((h_11.sP (h.n) (Int32.toNatClampNeg 2) (some (h_6.n))).nw (15, 0)) (z_Qv (fun h_16 => ∃ n_17, h_16.T (h.n) = (6, n_17) ∧ vp_in 3 n_17 ∧ (h_16.T (h_11.n)).1 = 15 ∧ z_Ct l G m_X8_init [.ref (h_16.n)] ((h_16.sP (h.n) (Int32.toNatClampNeg 3) (some (h_11.n))).nw (16, 0)) (z_Qv (fun h_21 => ∃ n_22, h_21.T (h.n) = (6, n_22) ∧ vp_in 4 n_22 ∧ (h_21.T (h_16.n)).1 = 16 ∧ Q (some (.ref (h.n))) (h_21.sP (h.n) (Int32.toNatClampNeg 4) (some (h_16.n)))))))))))))) : z_Ct l G m_X1_allOrders [] h Q := by
  refine z_Ct.of (ls := []) hst rfl (by show plainName yX1_allOrders.cls = true; decide +kernel) (z_le rfl) rfl ?_
  show z_V l G m_X1_allOrders (z_Fm G m_X1_allOrders Q) 6 5 h 0 [] []
  refine z_iconst (q := 1) (v := 5) dX1_allOrders_0 rfl rfl ?_
  refine z_newq 6 (q := 4) (N := 5) (rc2 := 5) (rs2 := 0) (by decide) rfl (by simp [z_ao]) q207 (by decide) rfl (z_le rfl) dX1_allOrders_1 rfl rfl rfl ?_
  refine z_dup (q := 5) dX1_allOrders_4 rfl rfl ?_
  refine z_iconst (q := 6) (v := 0) dX1_allOrders_5 rfl rfl ?_
  refine z_new 2 (q := 9) (rc2 := 4) (rs2 := 0) rfl q209 q210 q125 dX1_allOrders_6 rfl rfl rfl ?_
  refine z_dup (q := 10) dX1_allOrders_9 rfl rfl ?_
  refine z_cINv m_X4_init [] ((h.n + 1)) (q := 13) (rc2 := 4) (rs2 := 0) (st := [.ref (h.n + 1), .int 0, .ref (h.n), .ref (h.n)]) dX1_allOrders_10 rfl (z_nwm q211 rfl) oI_X4_init rfl rfl ⟨z_le rfl, z_le rfl⟩ (z_le rfl) rfl  rfl hf (fun h_1 hf => ?_)
  obtain ⟨n_2, g_3, hf⟩ := hf
  obtain ⟨g_4, hf⟩ := hf
  obtain ⟨g_5, hf⟩ := hf
  refine z_aast (q := 14) (c := 2) (n := n_2) g_3 (by decide) g_5 ⟨_, rfl, _, rfl, Or.inr (z_nwm q2391 rfl)⟩ g_4 dX1_allOrders_13 rfl ?_
  refine z_dup (q := 15) dX1_allOrders_14 rfl rfl ?_
  refine z_iconst (q := 16) (v := 1) dX1_allOrders_15 rfl rfl ?_
  refine z_new 3 (q := 19) (rc2 := 3) (rs2 := 0) rfl q219 q220 q126 dX1_allOrders_16 rfl rfl rfl ?_
  refine z_dup (q := 20) dX1_allOrders_19 rfl rfl ?_
  refine z_cINv m_X5_init [] ((h_1.n)) (q := 23) (rc2 := 3) (rs2 := 0) (st := [.ref (h_1.n), .int 1, .ref (h.n), .ref (h.n)]) dX1_allOrders_20 rfl (z_nwm q221 rfl) oI_X5_init rfl rfl ⟨z_le rfl, z_le rfl⟩ (z_le rfl) rfl  rfl hf (fun h_6 hf => ?_)
  obtain ⟨n_7, g_8, hf⟩ := hf
  obtain ⟨g_9, hf⟩ := hf
  obtain ⟨g_10, hf⟩ := hf
  refine z_aast (q := 24) (c := 3) (n := n_7) g_8 (by decide) g_10 ⟨_, rfl, _, rfl, Or.inr (z_nwm q2392 rfl)⟩ g_9 dX1_allOrders_23 rfl ?_
  refine z_dup (q := 25) dX1_allOrders_24 rfl rfl ?_
  refine z_iconst (q := 26) (v := 2) dX1_allOrders_25 rfl rfl ?_
  refine z_new 4 (q := 29) (rc2 := 2) (rs2 := 0) rfl q226 q227 q127 dX1_allOrders_26 rfl rfl rfl ?_
  refine z_dup (q := 30) dX1_allOrders_29 rfl rfl ?_
  refine z_cINv m_X6_init [] ((h_6.n)) (q := 33) (rc2 := 2) (rs2 := 0) (st := [.ref (h_6.n), .int 2, .ref (h.n), .ref (h.n)]) dX1_allOrders_30 rfl (z_nwm q228 rfl) oI_X6_init rfl rfl ⟨z_le rfl, z_le rfl⟩ (z_le rfl) rfl  rfl hf (fun h_11 hf => ?_)
  obtain ⟨n_12, g_13, hf⟩ := hf
  obtain ⟨g_14, hf⟩ := hf
  obtain ⟨g_15, hf⟩ := hf
  refine z_aast (q := 34) (c := 4) (n := n_12) g_13 (by decide) g_15 ⟨_, rfl, _, rfl, Or.inr (z_nwm q2393 rfl)⟩ g_14 dX1_allOrders_33 rfl ?_
  refine z_dup (q := 35) dX1_allOrders_34 rfl rfl ?_
  refine z_iconst (q := 36) (v := 3) dX1_allOrders_35 rfl rfl ?_
  refine z_new 5 (q := 39) (rc2 := 1) (rs2 := 0) rfl q233 q234 q128 dX1_allOrders_36 rfl rfl rfl ?_
  refine z_dup (q := 40) dX1_allOrders_39 rfl rfl ?_
  refine z_cINv m_X7_init [] ((h_11.n)) (q := 43) (rc2 := 1) (rs2 := 0) (st := [.ref (h_11.n), .int 3, .ref (h.n), .ref (h.n)]) dX1_allOrders_40 rfl (z_nwm q235 rfl) oI_X7_init rfl rfl ⟨z_le rfl, z_le rfl⟩ (z_le rfl) rfl  rfl hf (fun h_16 hf => ?_)
  obtain ⟨n_17, g_18, hf⟩ := hf
  obtain ⟨g_19, hf⟩ := hf
  obtain ⟨g_20, hf⟩ := hf
  refine z_aast (q := 44) (c := 5) (n := n_17) g_18 (by decide) g_20 ⟨_, rfl, _, rfl, Or.inr (z_nwm q2394 rfl)⟩ g_19 dX1_allOrders_43 rfl ?_
  refine z_dup (q := 45) dX1_allOrders_44 rfl rfl ?_
  refine z_iconst (q := 46) (v := 4) dX1_allOrders_45 rfl rfl ?_
  refine z_new 6 (q := 49) (rc2 := 0) (rs2 := 0) rfl q240 q241 q129 dX1_allOrders_46 rfl rfl rfl ?_
  refine z_dup (q := 50) dX1_allOrders_49 rfl rfl ?_
  refine z_cINv m_X8_init [] ((h_16.n)) (q := 53) (rc2 := 0) (rs2 := 0) (st := [.ref (h_16.n), .int 4, .ref (h.n), .ref (h.n)]) dX1_allOrders_50 rfl (z_nwm q242 rfl) oI_X8_init rfl rfl ⟨z_le rfl, z_le rfl⟩ (z_le rfl) rfl  rfl hf (fun h_21 hf => ?_)
  obtain ⟨n_22, g_23, hf⟩ := hf
  obtain ⟨g_24, hf⟩ := hf
  obtain ⟨g_25, hf⟩ := hf
  refine z_aast (q := 54) (c := 6) (n := n_22) g_23 (by decide) g_25 ⟨_, rfl, _, rfl, Or.inr (z_nwm q2395 rfl)⟩ g_24 dX1_allOrders_53 rfl ?_
  exact z_aret (r := some (h.n)) rfl dX1_allOrders_54 rfl (Or.inr ⟨_, rfl⟩) hf

theorem u_X1_beginner {l : Launch} {G : z_G} {a0 : Nat} {x1 : Int32} {h : z_H} {Q : z_Q} (hst : l.stackTraces = false)  (hf : z_Ct l G m_X1_in [.int x1, .int 0, .int 2] h (z_Qi (fun x_1 h_2 => (x_1 = 0 → Q (some (.int (-1))) h_2) ∧ (¬ x_1 = 0 → z_L0 h_2 a0 ∧ z_Ct l G m_X1_firstRow [.ref a0] h_2 (z_Qi (fun x_4 h_5 => (x_4 = 0 → Q (some (.int (-1))) h_5) ∧ (¬ x_4 = 0 → z_V l G m_X1_beginner (z_Fm G m_X1_beginner Q) 0 0 (h_5.nw (1, 3)) 22 [some (.ref a0), some (.int x1), some (.ref (h_5.n)), none] []))))))) : z_Ct l G m_X1_beginner [.ref a0, .int x1] h Q := by
  refine z_Ct.of (ls := [some (.ref a0), some (.int x1), none, none]) hst rfl (by show plainName yX1_beginner.cls = true; decide +kernel) (z_le rfl) rfl ?_
  show z_V l G m_X1_beginner (z_Fm G m_X1_beginner Q) 2 11 h 0 [some (.ref a0), some (.int x1), none, none] []
  refine z_iload_n (q := 1) (i := 1) (x := x1) dX1_beginner_0 rfl rfl rfl ?_
  refine z_iconst (q := 2) (v := 0) dX1_beginner_1 rfl rfl ?_
  refine z_iconst (q := 3) (v := 2) dX1_beginner_2 rfl rfl ?_
  refine z_cSi m_X1_in [.int x1, .int 0, .int 2] (q := 6) (rc2 := 2) (rs2 := 11) (st := []) dX1_beginner_3 rfl q1259 oS_X1_in rfl rfl ⟨z_le rfl, z_le rfl⟩ (z_le rfl) rfl  rfl hf (fun x_1 h_2 hf => ?_)
  refine z_if_eq (q := 9) (tgt := 16) dX1_beginner_6 rfl rfl (fun hc => ?_) (fun hc => ?_)
  · have hf := hf.1 hc
    refine z_iconst (q := 17) (v := (-1)) dX1_beginner_16 rfl rfl ?_
    exact z_iret dX1_beginner_17 rfl hf
  · have hf := hf.2 hc
    refine z_aload_n (q := 10) (i := 0) (x := a0) dX1_beginner_9 rfl rfl rfl ?_
    obtain ⟨g_3, hf⟩ := hf
    refine z_cVi m_X1_firstRow [] (a0) (q := 13) (rc2 := 1) (rs2 := 3) (st := []) dX1_beginner_10 rfl q1449 oV_X1_firstRow rfl rfl ⟨z_le rfl, z_le rfl⟩ (z_le rfl) (z_rcv_of 0 rfl (z_L0_T g_3) rfl) rfl  rfl hf (fun x_4 h_5 hf => ?_)
    refine z_if_ne (q := 16) (tgt := 18) dX1_beginner_13 rfl rfl (fun hc => ?_) (fun hc => ?_)
    · have hf := hf.2 hc
      refine z_iconst (q := 19) (v := 3) dX1_beginner_18 rfl rfl ?_
      refine z_newa 1 (q := 21) (N := 3) (rc2 := 0) (rs2 := 0) (z_lt rfl) (z_lt rfl) rfl q295 (by decide) rfl (z_le rfl) dX1_beginner_19 rfl rfl rfl ?_
      refine z_astore_n (q := 22) (i := 2) (ls2 := [some (.ref a0), some (.int x1), some (.ref (h_5.n)), none]) (x := (h_5.n)) dX1_beginner_21 rfl (z_lt rfl) rfl rfl ?_
      exact hf
    · have hf := hf.1 hc
      refine z_iconst (q := 17) (v := (-1)) dX1_beginner_16 rfl rfl ?_
      exact z_iret dX1_beginner_17 rfl hf

theorem b_X1_beginner_22 {l : Launch} {G : z_G} {rc rs : Nat} {a0 : Nat} {x1 : Int32} {a2 : Nat} {h : z_H} {Q : z_Q}  (hf : z_V l G m_X1_beginner (z_Fm G m_X1_beginner Q) rc rs h 24 [some (.ref a0), some (.int x1), some (.ref a2), some (.int 0)] []) : z_V l G m_X1_beginner (z_Fm G m_X1_beginner Q) rc rs h 22 [some (.ref a0), some (.int x1), some (.ref a2), none] [] := by
  refine z_iconst (q := 23) (v := 0) dX1_beginner_22 rfl rfl ?_
  refine z_istore_n (q := 24) (i := 3) (ls2 := [some (.ref a0), some (.int x1), some (.ref a2), some (.int 0)]) (x := 0) dX1_beginner_23 rfl (z_lt rfl) rfl rfl ?_
  exact hf

theorem b_X1_beginner_24 {l : Launch} {G : z_G} {rc rs : Nat} {a0 : Nat} {x1 : Int32} {a2 : Nat} {x3 : Int32} {h : z_H} {Q : z_Q}  (hf : (1 < x3 → z_L0 h a0 ∧ z_Ct l G m_X1_nextRow [.ref a0] h (z_Qi (fun x_2 h_3 => (x_2 = 0 → ∃ n_4, h_3.T a2 = (1, n_4) ∧ vp_in x1 n_4 ∧ Q (some (.int (h_3.I a2 (Int32.toNatClampNeg x1)))) h_3) ∧ (¬ x_2 = 0 → z_V l G m_X1_beginner (z_Fm G m_X1_beginner Q) rc rs h_3 22 [some (.ref a0), some (.int x1), some (.ref a2), none] [])))) ∧ (¬ 1 < x3 → z_L0 h a0 ∧ ∃ b_8, (h.P a0 4) = some b_8 ∧ z_L8 h b_8 ∧ z_Ct l G m_X1_plays [.ref a0, .int x3, .ref (b_8 + 3)] h (z_Qv (fun h_11 => z_L0 h_11 a0 ∧ ∃ n_13, h_11.T a2 = (1, n_13) ∧ vp_in (if (h_11.I (a0 + 9) 7) = x3 then 0 else (if 2 ≤ (h_11.I (a0 + 9) 7) then 2 else 1)) n_13 ∧ vp_in (if (h_11.I (a0 + 9) 7) = x3 then 0 else (if 2 ≤ (h_11.I (a0 + 9) 7) then 2 else 1)) n_13 ∧ z_V l G m_X1_beginner (z_Fm G m_X1_beginner Q) rc rs (h_11.sI a2 (Int32.toNatClampNeg (if (h_11.I (a0 + 9) 7) = x3 then 0 else (if 2 ≤ (h_11.I (a0 + 9) 7) then 2 else 1))) ((h_11.I a2 (Int32.toNatClampNeg (if (h_11.I (a0 + 9) 7) = x3 then 0 else (if 2 ≤ (h_11.I (a0 + 9) 7) then 2 else 1)))) + 1)) 24 [some (.ref a0), some (.int x1), some (.ref a2), some (.int (x3 + 1))] [])))) : z_V l G m_X1_beginner (z_Fm G m_X1_beginner Q) rc rs h 24 [some (.ref a0), some (.int x1), some (.ref a2), some (.int x3)] [] := by
  refine z_iload_n (q := 25) (i := 3) (x := x3) dX1_beginner_24 rfl rfl rfl ?_
  refine z_iconst (q := 26) (v := 1) dX1_beginner_25 rfl rfl ?_
  refine z_icmp_gt (q := 29) (tgt := 84) dX1_beginner_26 rfl rfl (fun hc => ?_) (fun hc => ?_)
  · have hf := hf.1 hc
    refine z_aload_n (q := 85) (i := 0) (x := a0) dX1_beginner_84 rfl rfl rfl ?_
    obtain ⟨g_1, hf⟩ := hf
    refine z_cVi m_X1_nextRow [] (a0) (q := 88) (rc2 := rc) (rs2 := rs) (st := []) dX1_beginner_85 rfl q1465 oV_X1_nextRow rfl rfl ⟨z_le rfl, z_le rfl⟩ (z_le rfl) (z_rcv_of 0 rfl (z_L0_T g_1) rfl) rfl  rfl hf (fun x_2 h_3 hf => ?_)
    refine z_if_ne (q := 91) (tgt := 22) dX1_beginner_88 rfl rfl (fun hc => ?_) (fun hc => ?_)
    · have hf := hf.2 hc
      refine z_prune [true, true, true, false] (ls2 := [some (.ref a0), some (.int x1), some (.ref a2), none]) rfl ?_
      exact hf
    · have hf := hf.1 hc
      refine z_aload_n (q := 92) (i := 2) (x := a2) dX1_beginner_91 rfl rfl rfl ?_
      refine z_iload_n (q := 93) (i := 1) (x := x1) dX1_beginner_92 rfl rfl rfl ?_
      obtain ⟨n_4, g_5, hf⟩ := hf
      obtain ⟨g_6, hf⟩ := hf
      refine z_iald (q := 94) (n := n_4) g_5 g_6 dX1_beginner_93 rfl ?_
      exact z_iret dX1_beginner_94 rfl hf
  · have hf := hf.2 hc
    refine z_aload_n (q := 30) (i := 0) (x := a0) dX1_beginner_29 rfl rfl rfl ?_
    refine z_iload_n (q := 31) (i := 3) (x := x3) dX1_beginner_30 rfl rfl rfl ?_
    refine z_aload_n (q := 32) (i := 0) (x := a0) dX1_beginner_31 rfl rfl rfl ?_
    obtain ⟨g_7, hf⟩ := hf
    obtain ⟨b_8, g_9, hf⟩ := hf
    refine z_get 0 4 (q := 35) (v := .ref b_8) rfl (z_lt rfl) (z_L0_T g_7) q510 dX1_beginner_32 rfl (z_fvR (fun _ _ _ => rfl) g_9) ?_
    obtain ⟨g_10, hf⟩ := hf
    refine z_getN 8 1 (q := 38) (v := .ref (b_8 + 3)) rfl (z_lt rfl) (z_L8_T g_10) (z_nwm q334 rfl) dX1_beginner_35 rfl (z_fvR (fun _ _ _ => rfl) (z_L8_P1 g_10)) ?_
    refine z_cVv m_X1_plays [.int x3, .ref (b_8 + 3)] (a0) (q := 41) (rc2 := rc) (rs2 := rs) (st := []) dX1_beginner_38 rfl q1457 oV_X1_plays rfl rfl ⟨z_le rfl, z_le rfl⟩ (z_le rfl) (z_rcv_of 0 rfl (z_L0_T g_7) rfl) rfl  rfl hf (fun h_11 hf => ?_)
    refine z_aload_n (q := 42) (i := 2) (x := a2) dX1_beginner_41 rfl rfl rfl ?_
    refine z_aload_n (q := 43) (i := 0) (x := a0) dX1_beginner_42 rfl rfl rfl ?_
    obtain ⟨g_12, hf⟩ := hf
    refine z_get 0 3 (q := 46) (v := .ref (a0 + 9)) rfl (z_lt rfl) (z_L0_T g_12) q508 dX1_beginner_43 rfl (z_fvR (fun _ _ _ => rfl) (z_L0_P3 g_12)) ?_
    refine z_getN 7 7 (q := 49) (v := .int (h_11.I (a0 + 9) 7)) rfl (z_lt rfl) (z_L7_T (z_L0_N3 g_12)) (z_nwm q261 rfl) dX1_beginner_46 rfl rfl ?_
    refine z_iload_n (q := 50) (i := 3) (x := x3) dX1_beginner_49 rfl rfl rfl ?_
    have hk : z_V l G m_X1_beginner (z_Fm G m_X1_beginner Q) rc rs h_11 73 [some (.ref a0), some (.int x1), some (.ref a2), some (.int x3)] [.int (if (h_11.I (a0 + 9) 7) = x3 then 0 else (if 2 ≤ (h_11.I (a0 + 9) 7) then 2 else 1)), .ref a2] := by
      refine z_dup2 (q := 74) dX1_beginner_73 rfl rfl rfl ?_
      obtain ⟨n_13, g_14, hf⟩ := hf
      obtain ⟨g_15, hf⟩ := hf
      refine z_iald (q := 75) (n := n_13) g_14 g_15 dX1_beginner_74 rfl ?_
      refine z_iconst (q := 76) (v := 1) dX1_beginner_75 rfl rfl ?_
      refine z_iadd (q := 77) dX1_beginner_76 rfl ?_
      obtain ⟨g_16, hf⟩ := hf
      refine z_iast (q := 78) (n := n_13) g_14 g_16 dX1_beginner_77 rfl ?_
      refine z_iinc (q := 81) (i := 3) (x := x3) (v := (x3 + 1)) (ls2 := [some (.ref a0), some (.int x1), some (.ref a2), some (.int (x3 + 1))]) dX1_beginner_78 rfl rfl (z_lt rfl) rfl rfl ?_
      refine z_goto (q := 24) dX1_beginner_81 rfl ?_
      exact hf
    refine z_icmp_ne (q := 53) (tgt := 57) dX1_beginner_50 rfl rfl (fun hc => ?_) (fun hc => ?_)
    · have hk := (z_ite hk).2 hc
      refine z_aload_n (q := 58) (i := 0) (x := a0) dX1_beginner_57 rfl rfl rfl ?_
      refine z_get 0 3 (q := 61) (v := .ref (a0 + 9)) rfl (z_lt rfl) (z_L0_T g_12) q508 dX1_beginner_58 rfl (z_fvR (fun _ _ _ => rfl) (z_L0_P3 g_12)) ?_
      refine z_getN 7 7 (q := 64) (v := .int (h_11.I (a0 + 9) 7)) rfl (z_lt rfl) (z_L7_T (z_L0_N3 g_12)) (z_nwm q261 rfl) dX1_beginner_61 rfl rfl ?_
      refine z_iconst (q := 65) (v := 2) dX1_beginner_64 rfl rfl ?_
      refine z_icmp_ge (q := 68) (tgt := 72) dX1_beginner_65 rfl rfl (fun hc => ?_) (fun hc => ?_)
      · have hk := (z_ite hk).1 hc
        refine z_iconst (q := 73) (v := 2) dX1_beginner_72 rfl rfl ?_
        exact hk
      · have hk := (z_ite hk).2 hc
        refine z_iconst (q := 69) (v := 1) dX1_beginner_68 rfl rfl ?_
        refine z_goto (q := 73) dX1_beginner_69 rfl ?_
        exact hk
    · have hk := (z_ite hk).1 hc
      refine z_iconst (q := 54) (v := 0) dX1_beginner_53 rfl rfl ?_
      refine z_goto (q := 73) dX1_beginner_54 rfl ?_
      exact hk

theorem u_X1_begins {l : Launch} {G : z_G} {a0 : Nat} {h : z_H} {Q : z_Q} (hst : l.stackTraces = false)  (hf : z_L0 h a0 ∧ ∃ b_2, (h.P a0 4) = some b_2 ∧ z_L8 h b_2 ∧ z_Ct l G m_X10_first [.ref b_2] h (z_Qi (fun x_5 h_6 => z_L9 h_6 (a0 + 23) ∧ z_Ct l G m_X11_begin [.ref (a0 + 23), .int x_5] h_6 (z_Qv (fun h_8 => z_V l G m_X1_begins (z_Fm G m_X1_begins Q) 0 0 h_8 16 [some (.ref a0), some (.int 0)] []))))) : z_Ct l G m_X1_begins [.ref a0] h Q := by
  refine z_Ct.of (ls := [some (.ref a0), none]) hst rfl (by show plainName yX1_begins.cls = true; decide +kernel) (z_le rfl) rfl ?_
  show z_V l G m_X1_begins (z_Fm G m_X1_begins Q) 0 0 h 0 [some (.ref a0), none] []
  refine z_aload_n (q := 1) (i := 0) (x := a0) dX1_begins_0 rfl rfl rfl ?_
  obtain ⟨g_1, hf⟩ := hf
  refine z_get 0 6 (q := 4) (v := .ref (a0 + 23)) rfl (z_lt rfl) (z_L0_T g_1) q512 dX1_begins_1 rfl (z_fvR (fun _ _ _ => rfl) (z_L0_P6 g_1)) ?_
  refine z_aload_n (q := 5) (i := 0) (x := a0) dX1_begins_4 rfl rfl rfl ?_
  obtain ⟨b_2, g_3, hf⟩ := hf
  refine z_get 0 4 (q := 8) (v := .ref b_2) rfl (z_lt rfl) (z_L0_T g_1) q510 dX1_begins_5 rfl (z_fvR (fun _ _ _ => rfl) g_3) ?_
  obtain ⟨g_4, hf⟩ := hf
  refine z_cVi m_X10_first [] (b_2) (q := 11) (rc2 := 0) (rs2 := 0) (st := [.ref (a0 + 23)]) dX1_begins_8 rfl q1180 oV_X10_first rfl rfl ⟨z_le rfl, z_le rfl⟩ (z_le rfl) (z_rcv_of 8 rfl (z_L8_T g_4) rfl) rfl  rfl hf (fun x_5 h_6 hf => ?_)
  obtain ⟨g_7, hf⟩ := hf
  refine z_cVv m_X11_begin [.int x_5] ((a0 + 23)) (q := 14) (rc2 := 0) (rs2 := 0) (st := []) dX1_begins_11 rfl q496 oV_X11_begin rfl rfl ⟨z_le rfl, z_le rfl⟩ (z_le rfl) (z_rcv_of 9 rfl (z_L9_T g_7) rfl) rfl  rfl hf (fun h_8 hf => ?_)
  refine z_iconst (q := 15) (v := 0) dX1_begins_14 rfl rfl ?_
  refine z_istore_n (q := 16) (i := 1) (ls2 := [some (.ref a0), some (.int 0)]) (x := 0) dX1_begins_15 rfl (z_lt rfl) rfl rfl ?_
  exact hf

theorem b_X1_begins_16 {l : Launch} {G : z_G} {a0 : Nat} {x1 : Int32} {h : z_H} {Q : z_Q}  (hf : z_L0 h a0 ∧ ((h.I (a0 + 49) 1) ≤ x1 → z_V l G m_X1_begins (z_Fm G m_X1_begins Q) 0 0 h 53 [some (.ref a0), some (.int 0)] []) ∧ (¬ (h.I (a0 + 49) 1) ≤ x1 → vp_in x1 24 ∧ z_Ct l G m_X11_gets [.ref (a0 + 23), .int 0, .int (h.I (a0 + 50) (Int32.toNatClampNeg x1)), .int 1] h (z_Qv (fun h_3 => z_V l G m_X1_begins (z_Fm G m_X1_begins Q) 0 0 h_3 16 [some (.ref a0), some (.int (x1 + 1))] [])))) : z_V l G m_X1_begins (z_Fm G m_X1_begins Q) 0 0 h 16 [some (.ref a0), some (.int x1)] [] := by
  refine z_iload_n (q := 17) (i := 1) (x := x1) dX1_begins_16 rfl rfl rfl ?_
  refine z_aload_n (q := 18) (i := 0) (x := a0) dX1_begins_17 rfl rfl rfl ?_
  obtain ⟨g_1, hf⟩ := hf
  refine z_get 0 8 (q := 21) (v := .ref (a0 + 49)) rfl (z_lt rfl) (z_L0_T g_1) q514 dX1_begins_18 rfl (z_fvR (fun _ _ _ => rfl) (z_L0_P8 g_1)) ?_
  refine z_getN 10 1 (q := 24) (v := .int (h.I (a0 + 49) 1)) rfl (z_lt rfl) (z_L10_T (z_L0_N8 g_1)) (z_nwm q486 rfl) dX1_begins_21 rfl rfl ?_
  refine z_icmp_ge (q := 27) (tgt := 51) dX1_begins_24 rfl rfl (fun hc => ?_) (fun hc => ?_)
  · have hf := hf.1 hc
    refine z_iconst (q := 52) (v := 0) dX1_begins_51 rfl rfl ?_
    refine z_istore_n (q := 53) (i := 1) (ls2 := [some (.ref a0), some (.int 0)]) (x := 0) dX1_begins_52 rfl (z_lt rfl) rfl rfl ?_
    exact hf
  · have hf := hf.2 hc
    refine z_aload_n (q := 28) (i := 0) (x := a0) dX1_begins_27 rfl rfl rfl ?_
    refine z_get 0 6 (q := 31) (v := .ref (a0 + 23)) rfl (z_lt rfl) (z_L0_T g_1) q512 dX1_begins_28 rfl (z_fvR (fun _ _ _ => rfl) (z_L0_P6 g_1)) ?_
    refine z_iconst (q := 32) (v := 0) dX1_begins_31 rfl rfl ?_
    refine z_aload_n (q := 33) (i := 0) (x := a0) dX1_begins_32 rfl rfl rfl ?_
    refine z_get 0 8 (q := 36) (v := .ref (a0 + 49)) rfl (z_lt rfl) (z_L0_T g_1) q514 dX1_begins_33 rfl (z_fvR (fun _ _ _ => rfl) (z_L0_P8 g_1)) ?_
    refine z_getN 10 0 (q := 39) (v := .ref (a0 + 50)) rfl (z_lt rfl) (z_L10_T (z_L0_N8 g_1)) (z_nwm q484 rfl) dX1_begins_36 rfl (z_fvR (fun _ _ _ => rfl) (z_L10_P0 (z_L0_N8 g_1))) ?_
    refine z_iload_n (q := 40) (i := 1) (x := x1) dX1_begins_39 rfl rfl rfl ?_
    obtain ⟨g_2, hf⟩ := hf
    refine z_iald (q := 41) (n := 24) (z_L10_A0 (z_L0_N8 g_1)) g_2 dX1_begins_40 rfl ?_
    refine z_iconst (q := 42) (v := 1) dX1_begins_41 rfl rfl ?_
    refine z_cVv m_X11_gets [.int 0, .int (h.I (a0 + 50) (Int32.toNatClampNeg x1)), .int 1] ((a0 + 23)) (q := 45) (rc2 := 0) (rs2 := 0) (st := []) dX1_begins_42 rfl q1184 oV_X11_gets rfl rfl ⟨z_le rfl, z_le rfl⟩ (z_le rfl) (z_rcv_of 9 rfl (z_L9_T (z_L0_N6 g_1)) rfl) rfl  rfl hf (fun h_3 hf => ?_)
    refine z_iinc (q := 48) (i := 1) (x := x1) (v := (x1 + 1)) (ls2 := [some (.ref a0), some (.int (x1 + 1))]) dX1_begins_45 rfl rfl (z_lt rfl) rfl rfl ?_
    refine z_goto (q := 16) dX1_begins_48 rfl ?_
    exact hf

theorem b_X1_begins_53 {l : Launch} {G : z_G} {a0 : Nat} {x1 : Int32} {h : z_H} {Q : z_Q}  (hf : z_L0 h a0 ∧ ((h.I (a0 + 51) 1) ≤ x1 → Q none (h.sI a0 14 0)) ∧ (¬ (h.I (a0 + 51) 1) ≤ x1 → vp_in x1 24 ∧ z_Ct l G m_X11_gets [.ref (a0 + 23), .int 1, .int (h.I (a0 + 52) (Int32.toNatClampNeg x1)), .int 1] h (z_Qv (fun h_3 => z_V l G m_X1_begins (z_Fm G m_X1_begins Q) 0 0 h_3 53 [some (.ref a0), some (.int (x1 + 1))] [])))) : z_V l G m_X1_begins (z_Fm G m_X1_begins Q) 0 0 h 53 [some (.ref a0), some (.int x1)] [] := by
  refine z_iload_n (q := 54) (i := 1) (x := x1) dX1_begins_53 rfl rfl rfl ?_
  refine z_aload_n (q := 55) (i := 0) (x := a0) dX1_begins_54 rfl rfl rfl ?_
  obtain ⟨g_1, hf⟩ := hf
  refine z_get 0 9 (q := 58) (v := .ref (a0 + 51)) rfl (z_lt rfl) (z_L0_T g_1) q515 dX1_begins_55 rfl (z_fvR (fun _ _ _ => rfl) (z_L0_P9 g_1)) ?_
  refine z_getN 10 1 (q := 61) (v := .int (h.I (a0 + 51) 1)) rfl (z_lt rfl) (z_L10_T (z_L0_N9 g_1)) (z_nwm q486 rfl) dX1_begins_58 rfl rfl ?_
  refine z_icmp_ge (q := 64) (tgt := 88) dX1_begins_61 rfl rfl (fun hc => ?_) (fun hc => ?_)
  · have hf := hf.1 hc
    refine z_aload_n (q := 89) (i := 0) (x := a0) dX1_begins_88 rfl rfl rfl ?_
    refine z_iconst (q := 90) (v := 0) dX1_begins_89 rfl rfl ?_
    refine z_putI 0 14 (q := 93) (x := 0) (v := .int 0) rfl (z_lt rfl) (z_L0_T g_1) q520 rfl dX1_begins_90 rfl rfl rfl rfl (fun _ _ _ => rfl) ?_
    exact z_vret dX1_begins_93 rfl hf
  · have hf := hf.2 hc
    refine z_aload_n (q := 65) (i := 0) (x := a0) dX1_begins_64 rfl rfl rfl ?_
    refine z_get 0 6 (q := 68) (v := .ref (a0 + 23)) rfl (z_lt rfl) (z_L0_T g_1) q512 dX1_begins_65 rfl (z_fvR (fun _ _ _ => rfl) (z_L0_P6 g_1)) ?_
    refine z_iconst (q := 69) (v := 1) dX1_begins_68 rfl rfl ?_
    refine z_aload_n (q := 70) (i := 0) (x := a0) dX1_begins_69 rfl rfl rfl ?_
    refine z_get 0 9 (q := 73) (v := .ref (a0 + 51)) rfl (z_lt rfl) (z_L0_T g_1) q515 dX1_begins_70 rfl (z_fvR (fun _ _ _ => rfl) (z_L0_P9 g_1)) ?_
    refine z_getN 10 0 (q := 76) (v := .ref (a0 + 52)) rfl (z_lt rfl) (z_L10_T (z_L0_N9 g_1)) (z_nwm q484 rfl) dX1_begins_73 rfl (z_fvR (fun _ _ _ => rfl) (z_L10_P0 (z_L0_N9 g_1))) ?_
    refine z_iload_n (q := 77) (i := 1) (x := x1) dX1_begins_76 rfl rfl rfl ?_
    obtain ⟨g_2, hf⟩ := hf
    refine z_iald (q := 78) (n := 24) (z_L10_A0 (z_L0_N9 g_1)) g_2 dX1_begins_77 rfl ?_
    refine z_iconst (q := 79) (v := 1) dX1_begins_78 rfl rfl ?_
    refine z_cVv m_X11_gets [.int 1, .int (h.I (a0 + 52) (Int32.toNatClampNeg x1)), .int 1] ((a0 + 23)) (q := 82) (rc2 := 0) (rs2 := 0) (st := []) dX1_begins_79 rfl q1184 oV_X11_gets rfl rfl ⟨z_le rfl, z_le rfl⟩ (z_le rfl) (z_rcv_of 9 rfl (z_L9_T (z_L0_N6 g_1)) rfl) rfl  rfl hf (fun h_3 hf => ?_)
    refine z_iinc (q := 85) (i := 1) (x := x1) (v := (x1 + 1)) (ls2 := [some (.ref a0), some (.int (x1 + 1))]) dX1_begins_82 rfl rfl (z_lt rfl) rfl rfl ?_
    refine z_goto (q := 53) dX1_begins_85 rfl ?_
    exact hf

theorem u_X1_begins_2 {l : Launch} {G : z_G} {a0 : Nat} {a1 : Nat} {h : z_H} {Q : z_Q} (hst : l.stackTraces = false)  (hf : z_L10 h a0 ∧ z_L10 h a1 ∧ ((h.I a0 1) ≤ (h.I a1 1) → z_V l G m_X1_begins_2 (z_Fm G m_X1_begins_2 Q) 0 0 h 15 [some (.ref a0), some (.ref a1), some (.int 0)] []) ∧ (¬ (h.I a0 1) ≤ (h.I a1 1) → Q (some (.int 0)) h)) : z_Ct l G m_X1_begins_2 [.ref a0, .ref a1] h Q := by
  refine z_Ct.of (ls := [some (.ref a0), some (.ref a1), none]) hst rfl (by show plainName yX1_begins_2.cls = true; decide +kernel) (z_le rfl) rfl ?_
  show z_V l G m_X1_begins_2 (z_Fm G m_X1_begins_2 Q) 0 0 h 0 [some (.ref a0), some (.ref a1), none] []
  refine z_aload_n (q := 1) (i := 0) (x := a0) dX1_begins_2_0 rfl rfl rfl ?_
  obtain ⟨g_1, hf⟩ := hf
  refine z_getN 10 1 (q := 4) (v := .int (h.I a0 1)) rfl (z_lt rfl) (z_L10_T g_1) (z_nwm q486 rfl) dX1_begins_2_1 rfl rfl ?_
  refine z_aload_n (q := 5) (i := 1) (x := a1) dX1_begins_2_4 rfl rfl rfl ?_
  obtain ⟨g_2, hf⟩ := hf
  refine z_getN 10 1 (q := 8) (v := .int (h.I a1 1)) rfl (z_lt rfl) (z_L10_T g_2) (z_nwm q486 rfl) dX1_begins_2_5 rfl rfl ?_
  refine z_icmp_le (q := 11) (tgt := 13) dX1_begins_2_8 rfl rfl (fun hc => ?_) (fun hc => ?_)
  · have hf := hf.1 hc
    refine z_iconst (q := 14) (v := 0) dX1_begins_2_13 rfl rfl ?_
    refine z_istore_n (q := 15) (i := 2) (ls2 := [some (.ref a0), some (.ref a1), some (.int 0)]) (x := 0) dX1_begins_2_14 rfl (z_lt rfl) rfl rfl ?_
    exact hf
  · have hf := hf.2 hc
    refine z_iconst (q := 12) (v := 0) dX1_begins_2_11 rfl rfl ?_
    exact z_zret dX1_begins_2_12 rfl (z_nb01 z_b0) hf

theorem b_X1_begins_2_15 {l : Launch} {G : z_G} {a0 : Nat} {a1 : Nat} {x2 : Int32} {h : z_H} {Q : z_Q}  (hf : z_L10 h a0 ∧ ((h.I a0 1) ≤ x2 → Q (some (.int 1)) h) ∧ (¬ (h.I a0 1) ≤ x2 → vp_in x2 24 ∧ z_L10 h a1 ∧ vp_in x2 24 ∧ ((h.I (a0 + 1) (Int32.toNatClampNeg x2)) = (h.I (a1 + 1) (Int32.toNatClampNeg x2)) → z_V l G m_X1_begins_2 (z_Fm G m_X1_begins_2 Q) 0 0 h 15 [some (.ref a0), some (.ref a1), some (.int (x2 + 1))] []) ∧ (¬ (h.I (a0 + 1) (Int32.toNatClampNeg x2)) = (h.I (a1 + 1) (Int32.toNatClampNeg x2)) → Q (some (.int 0)) h))) : z_V l G m_X1_begins_2 (z_Fm G m_X1_begins_2 Q) 0 0 h 15 [some (.ref a0), some (.ref a1), some (.int x2)] [] := by
  refine z_iload_n (q := 16) (i := 2) (x := x2) dX1_begins_2_15 rfl rfl rfl ?_
  refine z_aload_n (q := 17) (i := 0) (x := a0) dX1_begins_2_16 rfl rfl rfl ?_
  obtain ⟨g_1, hf⟩ := hf
  refine z_getN 10 1 (q := 20) (v := .int (h.I a0 1)) rfl (z_lt rfl) (z_L10_T g_1) (z_nwm q486 rfl) dX1_begins_2_17 rfl rfl ?_
  refine z_icmp_ge (q := 23) (tgt := 46) dX1_begins_2_20 rfl rfl (fun hc => ?_) (fun hc => ?_)
  · have hf := hf.1 hc
    refine z_iconst (q := 47) (v := 1) dX1_begins_2_46 rfl rfl ?_
    exact z_zret dX1_begins_2_47 rfl (z_nb01 z_b1) hf
  · have hf := hf.2 hc
    refine z_aload_n (q := 24) (i := 0) (x := a0) dX1_begins_2_23 rfl rfl rfl ?_
    refine z_getN 10 0 (q := 27) (v := .ref (a0 + 1)) rfl (z_lt rfl) (z_L10_T g_1) (z_nwm q484 rfl) dX1_begins_2_24 rfl (z_fvR (fun _ _ _ => rfl) (z_L10_P0 g_1)) ?_
    refine z_iload_n (q := 28) (i := 2) (x := x2) dX1_begins_2_27 rfl rfl rfl ?_
    obtain ⟨g_2, hf⟩ := hf
    refine z_iald (q := 29) (n := 24) (z_L10_A0 g_1) g_2 dX1_begins_2_28 rfl ?_
    refine z_aload_n (q := 30) (i := 1) (x := a1) dX1_begins_2_29 rfl rfl rfl ?_
    obtain ⟨g_3, hf⟩ := hf
    refine z_getN 10 0 (q := 33) (v := .ref (a1 + 1)) rfl (z_lt rfl) (z_L10_T g_3) (z_nwm q484 rfl) dX1_begins_2_30 rfl (z_fvR (fun _ _ _ => rfl) (z_L10_P0 g_3)) ?_
    refine z_iload_n (q := 34) (i := 2) (x := x2) dX1_begins_2_33 rfl rfl rfl ?_
    obtain ⟨g_4, hf⟩ := hf
    refine z_iald (q := 35) (n := 24) (z_L10_A0 g_3) g_4 dX1_begins_2_34 rfl ?_
    refine z_icmp_eq (q := 38) (tgt := 40) dX1_begins_2_35 rfl rfl (fun hc => ?_) (fun hc => ?_)
    · have hf := hf.1 hc
      refine z_iinc (q := 43) (i := 2) (x := x2) (v := (x2 + 1)) (ls2 := [some (.ref a0), some (.ref a1), some (.int (x2 + 1))]) dX1_begins_2_40 rfl rfl (z_lt rfl) rfl rfl ?_
      refine z_goto (q := 15) dX1_begins_2_43 rfl ?_
      exact hf
    · have hf := hf.2 hc
      refine z_iconst (q := 39) (v := 0) dX1_begins_2_38 rfl rfl ?_
      exact z_zret dX1_begins_2_39 rfl (z_nb01 z_b0) hf

theorem u_X1_bet {l : Launch} {G : z_G} {a0 : Nat} {x1 : Int32} {x2 : Int32} {h : z_H} {Q : z_Q} (hst : l.stackTraces = false)  (hf : z_Ct l G m_X1_isSide [.int x1] h (z_Qi (fun x_1 h_2 => (x_1 = 0 → Q (some (.int (-1))) h_2) ∧ (¬ x_1 = 0 → z_L0 h_2 a0 ∧ z_Ct l G m_X1_in [.int x2, .int 1, .int (h_2.I (a0 + 23) 23)] h_2 (z_Qi (fun x_4 h_5 => (x_4 = 0 → Q (some (.int (-1))) h_5) ∧ (¬ x_4 = 0 → z_L0 h_5 a0 ∧ (0 ≤ (h_5.I (a0 + 23) 12) → Q (some (.int (-1))) h_5) ∧ (¬ 0 ≤ (h_5.I (a0 + 23) 12) → z_Ct l G m_J2_size [.ref (a0 + 32)] h_5 (z_Qi (fun x_7 h_8 => (x_7 = 8 → Q (some (.int (-1))) h_8) ∧ (¬ x_7 = 8 → z_L0 h_8 a0 ∧ z_Ct l G m_X1_keeps [.ref a0] h_8 (z_Qv (fun h_10 => z_L0 h_10 a0 ∧ z_L0 (h_10.nw (29, 0)) a0 ∧ z_Ct l G m_X1_offer [.ref a0] (h_10.nw (29, 0)) (z_Qi (fun x_13 h_14 => z_Ct l G m_X22_init [.ref (h_10.n), .int x1, .int x2, .int x_13] h_14 (z_Qv (fun h_15 => (h_15.T (a0 + 32)).1 = 31 ∧ z_Ct l G m_J2_add [.ref (a0 + 32), .ref (h_10.n)] h_15 (z_Qi (fun x_17 h_18 => z_L0 h_18 a0 ∧ Q (some (.int ((h_18.I (a0 + 23) 23) - x2))) (h_18.sI (a0 + 23) 23 ((h_18.I (a0 + 23) 23) - x2))))))))))))))))))))) : z_Ct l G m_X1_bet [.ref a0, .int x1, .int x2] h Q := by
  refine z_Ct.of (ls := [some (.ref a0), some (.int x1), some (.int x2)]) hst rfl (by show plainName yX1_bet.cls = true; decide +kernel) (z_le rfl) rfl ?_
  show z_V l G m_X1_bet (z_Fm G m_X1_bet Q) 63 3525 h 0 [some (.ref a0), some (.int x1), some (.int x2)] []
  refine z_iload_n (q := 1) (i := 1) (x := x1) dX1_bet_0 rfl rfl rfl ?_
  refine z_cSi m_X1_isSide [.int x1] (q := 4) (rc2 := 63) (rs2 := 3525) (st := []) dX1_bet_1 rfl q1274 oS_X1_isSide rfl rfl ⟨z_le rfl, z_le rfl⟩ (z_le rfl) rfl  rfl hf (fun x_1 h_2 hf => ?_)
  refine z_if_eq (q := 7) (tgt := 47) dX1_bet_4 rfl rfl (fun hc => ?_) (fun hc => ?_)
  · have hf := hf.1 hc
    refine z_iconst (q := 48) (v := (-1)) dX1_bet_47 rfl rfl ?_
    exact z_iret dX1_bet_48 rfl hf
  · have hf := hf.2 hc
    refine z_iload_n (q := 8) (i := 2) (x := x2) dX1_bet_7 rfl rfl rfl ?_
    refine z_iconst (q := 9) (v := 1) dX1_bet_8 rfl rfl ?_
    refine z_aload_n (q := 10) (i := 0) (x := a0) dX1_bet_9 rfl rfl rfl ?_
    obtain ⟨g_3, hf⟩ := hf
    refine z_get 0 6 (q := 13) (v := .ref (a0 + 23)) rfl (z_lt rfl) (z_L0_T g_3) q512 dX1_bet_10 rfl (z_fvR (fun _ _ _ => rfl) (z_L0_P6 g_3)) ?_
    refine z_getN 9 23 (q := 16) (v := .int (h_2.I (a0 + 23) 23)) rfl (z_lt rfl) (z_L9_T (z_L0_N6 g_3)) (z_nwm q426 rfl) dX1_bet_13 rfl rfl ?_
    refine z_cSi m_X1_in [.int x2, .int 1, .int (h_2.I (a0 + 23) 23)] (q := 19) (rc2 := 63) (rs2 := 3525) (st := []) dX1_bet_16 rfl q1259 oS_X1_in rfl rfl ⟨z_le rfl, z_le rfl⟩ (z_le rfl) rfl  rfl hf (fun x_4 h_5 hf => ?_)
    refine z_if_eq (q := 22) (tgt := 47) dX1_bet_19 rfl rfl (fun hc => ?_) (fun hc => ?_)
    · have hf := hf.1 hc
      refine z_iconst (q := 48) (v := (-1)) dX1_bet_47 rfl rfl ?_
      exact z_iret dX1_bet_48 rfl hf
    · have hf := hf.2 hc
      refine z_aload_n (q := 23) (i := 0) (x := a0) dX1_bet_22 rfl rfl rfl ?_
      obtain ⟨g_6, hf⟩ := hf
      refine z_get 0 6 (q := 26) (v := .ref (a0 + 23)) rfl (z_lt rfl) (z_L0_T g_6) q512 dX1_bet_23 rfl (z_fvR (fun _ _ _ => rfl) (z_L0_P6 g_6)) ?_
      refine z_getN 9 12 (q := 29) (v := .int (h_5.I (a0 + 23) 12)) rfl (z_lt rfl) (z_L9_T (z_L0_N6 g_6)) (z_nwm q402 rfl) dX1_bet_26 rfl rfl ?_
      refine z_if_ge (q := 32) (tgt := 47) dX1_bet_29 rfl rfl (fun hc => ?_) (fun hc => ?_)
      · have hf := hf.1 hc
        refine z_iconst (q := 48) (v := (-1)) dX1_bet_47 rfl rfl ?_
        exact z_iret dX1_bet_48 rfl hf
      · have hf := hf.2 hc
        refine z_aload_n (q := 33) (i := 0) (x := a0) dX1_bet_32 rfl rfl rfl ?_
        refine z_get 0 6 (q := 36) (v := .ref (a0 + 23)) rfl (z_lt rfl) (z_L0_T g_6) q512 dX1_bet_33 rfl (z_fvR (fun _ _ _ => rfl) (z_L0_P6 g_6)) ?_
        refine z_getN 9 18 (q := 39) (v := .ref (a0 + 32)) rfl (z_lt rfl) (z_L9_T (z_L0_N6 g_6)) (z_nwm q416 rfl) dX1_bet_36 rfl (z_fvR (fun _ _ _ => rfl) (z_L9_P18 (z_L0_N6 g_6))) ?_
        refine z_cVi m_J2_size [] ((a0 + 32)) (q := 42) (rc2 := 63) (rs2 := 3525) (st := []) dX1_bet_39 rfl q1258 oV_J2_size rfl rfl ⟨z_le rfl, z_le rfl⟩ (z_le rfl) (z_rcv_of 21 rfl (z_L9_N18 (z_L0_N6 g_6)) rfl) rfl  rfl hf (fun x_7 h_8 hf => ?_)
        refine z_bipush (q := 44) (v := 8) dX1_bet_42 (by decide) rfl ?_
        refine z_icmp_ne (q := 47) (tgt := 49) dX1_bet_44 rfl rfl (fun hc => ?_) (fun hc => ?_)
        · have hf := hf.2 hc
          refine z_aload_n (q := 50) (i := 0) (x := a0) dX1_bet_49 rfl rfl rfl ?_
          obtain ⟨g_9, hf⟩ := hf
          refine z_cVv m_X1_keeps [] (a0) (q := 53) (rc2 := 2) (rs2 := 67) (st := []) dX1_bet_50 rfl q1291 oV_X1_keeps rfl rfl ⟨z_le rfl, z_le rfl⟩ (z_le rfl) (z_rcv_of 0 rfl (z_L0_T g_9) rfl) rfl  rfl hf (fun h_10 hf => ?_)
          refine z_aload_n (q := 54) (i := 0) (x := a0) dX1_bet_53 rfl rfl rfl ?_
          obtain ⟨g_11, hf⟩ := hf
          refine z_get 0 6 (q := 57) (v := .ref (a0 + 23)) rfl (z_lt rfl) (z_L0_T g_11) q512 dX1_bet_54 rfl (z_fvR (fun _ _ _ => rfl) (z_L0_P6 g_11)) ?_
          refine z_getN 9 18 (q := 60) (v := .ref (a0 + 32)) rfl (z_lt rfl) (z_L9_T (z_L0_N6 g_11)) (z_nwm q416 rfl) dX1_bet_57 rfl (z_fvR (fun _ _ _ => rfl) (z_L9_P18 (z_L0_N6 g_11))) ?_
          refine z_new 19 (q := 63) (rc2 := 1) (rs2 := 64) rfl q1395 q1554 q161 dX1_bet_60 rfl rfl rfl ?_
          refine z_dup (q := 64) dX1_bet_63 rfl rfl ?_
          refine z_iload_n (q := 65) (i := 1) (x := x1) dX1_bet_64 rfl rfl rfl ?_
          refine z_iload_n (q := 66) (i := 2) (x := x2) dX1_bet_65 rfl rfl rfl ?_
          refine z_aload_n (q := 67) (i := 0) (x := a0) dX1_bet_66 rfl rfl rfl ?_
          obtain ⟨g_12, hf⟩ := hf
          refine z_cVi m_X1_offer [] (a0) (q := 70) (rc2 := 1) (rs2 := 64) (st := [.int x2, .int x1, .ref (h_10.n), .ref (h_10.n), .ref (a0 + 32)]) dX1_bet_67 rfl q1555 oV_X1_offer rfl rfl ⟨z_le rfl, z_le rfl⟩ (z_le rfl) (z_rcv_of 0 rfl (z_L0_T g_12) rfl) rfl  rfl hf (fun x_13 h_14 hf => ?_)
          refine z_cIv m_X22_init [.int x1, .int x2, .int x_13] ((h_10.n)) (q := 73) (rc2 := 1) (rs2 := 64) (st := [.ref (h_10.n), .ref (a0 + 32)]) dX1_bet_70 rfl q1556 oI_X22_init rfl rfl ⟨z_le rfl, z_le rfl⟩ (z_le rfl) rfl  rfl hf (fun h_15 hf => ?_)
          obtain ⟨g_16, hf⟩ := hf
          refine z_cVi m_J2_add [.ref (h_10.n)] ((a0 + 32)) (q := 76) (rc2 := 0) (rs2 := 0) (st := []) dX1_bet_73 rfl q1363 oV_J2_add rfl rfl ⟨z_le rfl, z_le rfl⟩ (z_le rfl) (z_rcv_of 21 rfl g_16 rfl) rfl  rfl hf (fun x_17 h_18 hf => ?_)
          refine z_pop (q := 77) dX1_bet_76 rfl rfl ?_
          refine z_aload_n (q := 78) (i := 0) (x := a0) dX1_bet_77 rfl rfl rfl ?_
          obtain ⟨g_19, hf⟩ := hf
          refine z_get 0 6 (q := 81) (v := .ref (a0 + 23)) rfl (z_lt rfl) (z_L0_T g_19) q512 dX1_bet_78 rfl (z_fvR (fun _ _ _ => rfl) (z_L0_P6 g_19)) ?_
          refine z_dup (q := 82) dX1_bet_81 rfl rfl ?_
          refine z_getN 9 23 (q := 85) (v := .int (h_18.I (a0 + 23) 23)) rfl (z_lt rfl) (z_L9_T (z_L0_N6 g_19)) (z_nwm q426 rfl) dX1_bet_82 rfl rfl ?_
          refine z_iload_n (q := 86) (i := 2) (x := x2) dX1_bet_85 rfl rfl rfl ?_
          refine z_isub (q := 87) dX1_bet_86 rfl ?_
          refine z_putIN 9 23 (q := 90) (x := ((h_18.I (a0 + 23) 23) - x2)) (v := .int ((h_18.I (a0 + 23) 23) - x2)) rfl (z_lt rfl) (z_L9_T (z_L0_N6 g_19)) (z_nwm q426 rfl) rfl dX1_bet_87 rfl rfl rfl rfl (fun _ _ _ => rfl) ?_
          refine z_aload_n (q := 91) (i := 0) (x := a0) dX1_bet_90 rfl rfl rfl ?_
          refine z_get 0 6 (q := 94) (v := .ref (a0 + 23)) rfl (z_lt rfl) (z_L0_T g_19) q512 dX1_bet_91 rfl (z_fvR (fun _ _ _ => rfl) (z_L0_P6 g_19)) ?_
          refine z_getN 9 23 (q := 97) (v := .int ((h_18.I (a0 + 23) 23) - x2)) rfl (z_lt rfl) (z_L9_T (z_L0_N6 g_19)) (z_nwm q426 rfl) dX1_bet_94 rfl (congrArg Value.int z_rIs) ?_
          exact z_iret dX1_bet_97 rfl hf
        · have hf := hf.1 hc
          refine z_iconst (q := 48) (v := (-1)) dX1_bet_47 rfl rfl ?_
          exact z_iret dX1_bet_48 rfl hf

theorem u_X1_book {l : Launch} {G : z_G} {mc ms : Nat} {a0 : Nat} {h : z_H} {Q : z_Q} (hst : l.stackTraces = false)  (hf : z_L0 h a0 ∧ z_Ct l G m_X1_reads [.ref a0] h (z_Qv (fun h_2 => z_L0 h_2 a0 ∧ ∃ b_4, (h_2.P a0 4) = some b_4 ∧ ∃ mc_6, ∃ ms_7, ∃ rc_8, mc = rc_8 + mc_6 ∧ ∃ rs_10, ms = rs_10 + ms_7 ∧ z_Cz l G (m_X2_book mc_6 ms_7) [.ref (a0 + 2), .ref b_4] h_2 (z_Qr (fun b_12 h_13 => z_L0 h_13 a0 ∧ Q (some (.int 0)) (h_13.sP a0 5 (some b_12)))) (fun C0 b_15 h_16 => C0 = "BeggarHeaps$Wrong" ∧ (h_16.T b_15).1 = 22 ∧ Q (some (.int (h_16.I b_15 6))) h_16)))) : z_CtW l G (m_X1_book mc ms) ([((4 : Nat), (19 : Nat), (22 : Nat), (139 : Nat))]) [.ref a0] h Q := by
  refine z_CtW.of (ls := [some (.ref a0), none]) hst rfl (by show plainName yX1_book.cls = true; decide +kernel) (z_le rfl) rfl ?_
  show z_V l G (m_X1_book mc ms) (z_Fm G (m_X1_book mc ms) Q) mc ms h 0 [some (.ref a0), none] []
  refine z_aload_n (q := 1) (i := 0) (x := a0) dX1_book_0 rfl rfl rfl ?_
  obtain ⟨g_1, hf⟩ := hf
  refine z_cVv m_X1_reads [] (a0) (q := 4) (rc2 := mc) (rs2 := ms) (st := []) dX1_book_1 rfl q585 oV_X1_reads rfl rfl ⟨z_le rfl, z_le rfl⟩ (z_le rfl) (z_rcv_of 0 rfl (z_L0_T g_1) rfl) rfl  rfl hf (fun h_2 hf => ?_)
  refine z_aload_n (q := 5) (i := 0) (x := a0) dX1_book_4 rfl rfl rfl ?_
  refine z_aload_n (q := 6) (i := 0) (x := a0) dX1_book_5 rfl rfl rfl ?_
  obtain ⟨g_3, hf⟩ := hf
  refine z_get 0 1 (q := 9) (v := .ref (a0 + 2)) rfl (z_lt rfl) (z_L0_T g_3) q505 dX1_book_6 rfl (z_fvR (fun _ _ _ => rfl) (z_L0_P1 g_3)) ?_
  refine z_aload_n (q := 10) (i := 0) (x := a0) dX1_book_9 rfl rfl rfl ?_
  obtain ⟨b_4, g_5, hf⟩ := hf
  refine z_get 0 4 (q := 13) (v := .ref b_4) rfl (z_lt rfl) (z_L0_T g_3) q510 dX1_book_10 rfl (z_fvR (fun _ _ _ => rfl) g_5) ?_
  obtain ⟨mc_6, hf⟩ := hf
  obtain ⟨ms_7, hf⟩ := hf
  obtain ⟨rc_8, g_9, hf⟩ := hf
  obtain ⟨rs_10, g_11, hf⟩ := hf
  refine z_cXr (m_X2_book mc_6 ms_7) [.ref b_4] ((a0 + 2)) (q := 16) (rc2 := rc_8) (rs2 := rs_10) (st := [.ref a0]) dX1_book_13 rfl q1211 (oV_X2_book _ _) rfl rfl ⟨z_le rfl, z_le rfl⟩ (z_le rfl) (z_rcv_of 1 rfl (z_L0_N1 g_3) rfl) g_9  g_11 hf (fun C0 b_15 h_16 hX => ?_) (fun b_12 h_13 hf => ?_)
  · obtain ⟨rfl, hf⟩ := hX
    refine z_catch (name := "BeggarHeaps$Wrong") rfl (z_le rfl) (z_lt rfl) (by decide) q584 (Or.inl rfl) (z_nwm q733 rfl) ?_
    refine z_astore_n (q := 23) (i := 1) (ls2 := [some (.ref a0), some (.ref b_15)]) (x := b_15) dX1_book_22 rfl (z_lt rfl) rfl rfl ?_
    refine z_aload_n (q := 24) (i := 1) (x := b_15) dX1_book_23 rfl rfl rfl ?_
    obtain ⟨g_17, hf⟩ := hf
    refine z_getN 12 6 (q := 27) (v := .int (h_16.I b_15 6)) rfl (z_lt rfl) g_17 (z_nwm q784 rfl) dX1_book_24 rfl rfl ?_
    exact z_iret dX1_book_27 rfl hf
  · skip
    obtain ⟨g_14, hf⟩ := hf
    refine z_putP 0 5 (q := 19) (x := some b_12) (v := .ref b_12) rfl (z_lt rfl) (z_L0_T g_14) q511 rfl dX1_book_16 rfl rfl rfl rfl (fun _ _ _ => rfl) ?_
    refine z_goto (q := 28) dX1_book_19 rfl ?_
    refine z_iconst (q := 29) (v := 0) dX1_book_28 rfl rfl ?_
    exact z_iret dX1_book_29 rfl hf

theorem u_X1_both {l : Launch} {G : z_G} {mc ms : Nat} {a0 : Nat} {x1 : Int32} {h : z_H} {Q : z_Q} (hst : l.stackTraces = false)  (hf : z_Ct l G m_X1_in [.int x1, .int 1, .int 4] h (z_Qi (fun x_1 h_2 => (x_1 = 0 → Q (some (.int (-1))) h_2) ∧ (¬ x_1 = 0 → z_L0 h_2 a0 ∧ ((h_2.I (a0 + 23) 16) = 0 → ∃ mc_5, ∃ ms_6, ∃ rc_7, mc = rc_7 + mc_5 ∧ ∃ rs_9, ms = rs_9 + ms_6 ∧ z_Ct l G (m_X1_must 5 mc_5 ms_6) [.ref a0, .ref (a0 + 23), .int x1] h_2 (z_Qi (fun x_11 h_12 => Q (some (.int (if x_11 = 0 then 0 else 1))) h_12))) ∧ (¬ (h_2.I (a0 + 23) 16) = 0 → Q (some (.int (-1))) h_2))))) : z_Ct l G (m_X1_both mc ms) [.ref a0, .int x1] h Q := by
  refine z_Ct.of (ls := [some (.ref a0), some (.int x1)]) hst rfl (by show plainName yX1_both.cls = true; decide +kernel) (z_le rfl) rfl ?_
  show z_V l G (m_X1_both mc ms) (z_Fm G (m_X1_both mc ms) Q) mc ms h 0 [some (.ref a0), some (.int x1)] []
  refine z_iload_n (q := 1) (i := 1) (x := x1) dX1_both_0 rfl rfl rfl ?_
  refine z_iconst (q := 2) (v := 1) dX1_both_1 rfl rfl ?_
  refine z_iconst (q := 3) (v := 4) dX1_both_2 rfl rfl ?_
  refine z_cSi m_X1_in [.int x1, .int 1, .int 4] (q := 6) (rc2 := mc) (rs2 := ms) (st := []) dX1_both_3 rfl q1259 oS_X1_in rfl rfl ⟨z_le rfl, z_le rfl⟩ (z_le rfl) rfl  rfl hf (fun x_1 h_2 hf => ?_)
  refine z_if_eq (q := 9) (tgt := 19) dX1_both_6 rfl rfl (fun hc => ?_) (fun hc => ?_)
  · have hf := hf.1 hc
    refine z_iconst (q := 20) (v := (-1)) dX1_both_19 rfl rfl ?_
    refine z_goto (q := 40) dX1_both_20 rfl ?_
    exact z_iret dX1_both_40 rfl hf
  · have hf := hf.2 hc
    refine z_aload_n (q := 10) (i := 0) (x := a0) dX1_both_9 rfl rfl rfl ?_
    obtain ⟨g_4, hf⟩ := hf
    refine z_get 0 6 (q := 13) (v := .ref (a0 + 23)) rfl (z_lt rfl) (z_L0_T g_4) q512 dX1_both_10 rfl (z_fvR (fun _ _ _ => rfl) (z_L0_P6 g_4)) ?_
    refine z_getN 9 16 (q := 16) (v := .int (h_2.I (a0 + 23) 16)) rfl (z_lt rfl) (z_L9_T (z_L0_N6 g_4)) (z_nwm q412 rfl) dX1_both_13 rfl rfl ?_
    refine z_if_eq (q := 19) (tgt := 23) dX1_both_16 rfl rfl (fun hc => ?_) (fun hc => ?_)
    · have hf := hf.1 hc
      refine z_aload_n (q := 24) (i := 0) (x := a0) dX1_both_23 rfl rfl rfl ?_
      refine z_aload_n (q := 25) (i := 0) (x := a0) dX1_both_24 rfl rfl rfl ?_
      refine z_get 0 6 (q := 28) (v := .ref (a0 + 23)) rfl (z_lt rfl) (z_L0_T g_4) q512 dX1_both_25 rfl (z_fvR (fun _ _ _ => rfl) (z_L0_P6 g_4)) ?_
      refine z_iload_n (q := 29) (i := 1) (x := x1) dX1_both_28 rfl rfl rfl ?_
      obtain ⟨mc_5, hf⟩ := hf
      obtain ⟨ms_6, hf⟩ := hf
      obtain ⟨rc_7, g_8, hf⟩ := hf
      obtain ⟨rs_9, g_10, hf⟩ := hf
      refine z_cVi (m_X1_must 5 mc_5 ms_6) [.ref (a0 + 23), .int x1] (a0) (q := 32) (rc2 := rc_7) (rs2 := rs_9) (st := []) dX1_both_29 rfl q1597 (oV_X1_must _ _ _) rfl rfl (z_room_of (by first | exact z_le rfl | (simp only [z_M.d, z_M.nL, z_M.lo, m_X1_must, m_X1_both]; omega)) (by first | exact z_le rfl | (simp only [z_M.d, z_M.nL, z_M.lo, m_X1_must, m_X1_both]; omega))) (z_le rfl) (z_rcv_of 0 rfl (z_L0_T g_4) rfl) g_8  g_10 hf (fun x_11 h_12 hf => ?_)
      have hk : z_V l G (m_X1_both mc ms) (z_Fm G (m_X1_both mc ms) Q) rc_7 rs_9 h_12 40 [some (.ref a0), some (.int x1)] [.int (if x_11 = 0 then 0 else 1)] := by
        exact z_iret dX1_both_40 rfl hf
      refine z_if_eq (q := 35) (tgt := 39) dX1_both_32 rfl rfl (fun hc => ?_) (fun hc => ?_)
      · have hk := (z_ite hk).1 hc
        refine z_iconst (q := 40) (v := 0) dX1_both_39 rfl rfl ?_
        exact hk
      · have hk := (z_ite hk).2 hc
        refine z_iconst (q := 36) (v := 1) dX1_both_35 rfl rfl ?_
        refine z_goto (q := 40) dX1_both_36 rfl ?_
        exact hk
    · have hf := hf.2 hc
      refine z_iconst (q := 20) (v := (-1)) dX1_both_19 rfl rfl ?_
      refine z_goto (q := 40) dX1_both_20 rfl ?_
      exact z_iret dX1_both_40 rfl hf

theorem u_X1_canWin {l : Launch} {G : z_G} {d : Nat} {mc ms : Nat} {a0 : Nat} {a1 : Nat} {x2 : Int32} {x3 : Int32} {h : z_H} {Q : z_Q} (hst : l.stackTraces = false)  (hf : ∃ mc_1, ∃ ms_2, ∃ rc_3, mc = rc_3 + mc_1 ∧ ∃ rs_5, ms = rs_5 + ms_2 ∧ z_L0 h a0 ∧ z_Ct l G (m_X1_tried mc_1 ms_2) [.ref a0, .int (2 * x2), .ref a1] h (z_Qr (fun b_8 h_9 => z_L0 h_9 a0 ∧ z_Ct l G m_X1_goesToHeap [.ref a0, .ref b_8] h_9 (z_Qi (fun x_11 h_12 => (x_11 = 0 → z_L0 h_12 a0 ∧ z_L9 h_12 b_8 ∧ Q (some (.int (if ((h_12.sI a0 20 x3).I b_8 12) = 0 then 1 else 0))) (h_12.sI a0 20 x3)) ∧ (¬ x_11 = 0 → (x2 = 0 → Q (some (.int 0)) h_12) ∧ (¬ x2 = 0 → z_L9 h_12 b_8 ∧ ((h_12.I b_8 10) = 1 → z_L0 h_12 a0 ∧ ∃ b_15, (h_12.P a0 4) = some b_15 ∧ z_L8 h_12 b_15 ∧ ∃ b_18, (h_12.P a0 4) = some b_18 ∧ z_L8 h_12 b_18 ∧ z_Ct l G m_X10_order [.ref b_18] h_12 (z_Qi (fun x_21 h_22 => ∃ n_23, h_22.T (a0 + 3) = (6, n_23) ∧ vp_in x_21 n_23 ∧ ∃ b_26, (h_22.P (a0 + 3) (Int32.toNatClampNeg x_21)) = some b_26 ∧ z_L9 h_22 b_8 ∧ z_Ct l G m_X11_takes [.ref b_8, .ref (b_15 + 3), .ref b_26] h_22 (z_Qv (fun h_29 => ∃ mc_30, ∃ ms_31, ∃ rc_32, rc_3 = rc_32 + mc_30 ∧ ∃ rs_34, rs_5 = rs_34 + ms_31 ∧ z_L0 h_29 a0 ∧ z_Ct l G (m_X1_canWin d mc_30 ms_31) [.ref a0, .ref b_8, .int (x2 - 1), .int x3] h_29 (z_Qi (fun x_37 h_38 => (x_37 = 0 ∨ x_37 = 1) ∧ Q (some (.int x_37)) h_38))))))) ∧ (¬ (h_12.I b_8 10) = 1 → z_V l G (m_X1_canWin (d + 1) mc ms) (z_Fm G (m_X1_canWin (d + 1) mc ms) Q) rc_3 rs_5 h_12 91 [some (.ref a0), none, some (.int x2), some (.int x3), some (.ref b_8), some (.int 0), none] [])))))))) : z_Ct l G (m_X1_canWin (d + 1) mc ms) [.ref a0, .ref a1, .int x2, .int x3] h Q := by
  refine z_Ct.of (ls := [some (.ref a0), some (.ref a1), some (.int x2), some (.int x3), none, none, none]) hst rfl (by show plainName yX1_canWin.cls = true; decide +kernel) (z_le rfl) rfl ?_
  show z_V l G (m_X1_canWin (d + 1) mc ms) (z_Fm G (m_X1_canWin (d + 1) mc ms) Q) mc ms h 0 [some (.ref a0), some (.ref a1), some (.int x2), some (.int x3), none, none, none] []
  refine z_aload_n (q := 1) (i := 0) (x := a0) dX1_canWin_0 rfl rfl rfl ?_
  refine z_iconst (q := 2) (v := 2) dX1_canWin_1 rfl rfl ?_
  refine z_iload_n (q := 3) (i := 2) (x := x2) dX1_canWin_2 rfl rfl rfl ?_
  refine z_imul (q := 4) dX1_canWin_3 rfl ?_
  refine z_aload_n (q := 5) (i := 1) (x := a1) dX1_canWin_4 rfl rfl rfl ?_
  obtain ⟨mc_1, hf⟩ := hf
  obtain ⟨ms_2, hf⟩ := hf
  obtain ⟨rc_3, g_4, hf⟩ := hf
  obtain ⟨rs_5, g_6, hf⟩ := hf
  obtain ⟨g_7, hf⟩ := hf
  refine z_cVr (m_X1_tried mc_1 ms_2) [.int (2 * x2), .ref a1] (a0) (q := 8) (rc2 := rc_3) (rs2 := rs_5) (st := []) dX1_canWin_5 rfl q1585 (oV_X1_tried _ _) rfl rfl (z_room_of (by first | exact z_le rfl | (simp only [z_M.d, z_M.nL, z_M.lo, m_X1_tried, m_X1_canWin]; omega)) (by first | exact z_le rfl | (simp only [z_M.d, z_M.nL, z_M.lo, m_X1_tried, m_X1_canWin]; omega))) (z_le rfl) (z_rcv_of 0 rfl (z_L0_T g_7) rfl) g_4  g_6 hf (fun b_8 h_9 hf => ?_)
  refine z_astore (q := 10) (i := 4) (ls2 := [some (.ref a0), some (.ref a1), some (.int x2), some (.int x3), some (.ref b_8), none, none]) (x := b_8) dX1_canWin_8 (z_lt rfl) rfl rfl ?_
  refine z_aload_n (q := 11) (i := 0) (x := a0) dX1_canWin_10 rfl rfl rfl ?_
  refine z_aload (q := 13) (i := 4) (x := b_8) dX1_canWin_11 rfl rfl ?_
  obtain ⟨g_10, hf⟩ := hf
  refine z_cVi m_X1_goesToHeap [.ref b_8] (a0) (q := 16) (rc2 := rc_3) (rs2 := rs_5) (st := []) dX1_canWin_13 rfl q1589 oV_X1_goesToHeap rfl rfl (z_room_of (by first | exact z_le rfl | (simp only [z_M.d, z_M.nL, z_M.lo, m_X1_goesToHeap, m_X1_canWin]; omega)) (by first | exact z_le rfl | (simp only [z_M.d, z_M.nL, z_M.lo, m_X1_goesToHeap, m_X1_canWin]; omega))) (z_le rfl) (z_rcv_of 0 rfl (z_L0_T g_10) rfl) rfl  rfl hf (fun x_11 h_12 hf => ?_)
  refine z_if_ne (q := 19) (tgt := 38) dX1_canWin_16 rfl rfl (fun hc => ?_) (fun hc => ?_)
  · have hf := hf.2 hc
    refine z_iload_n (q := 39) (i := 2) (x := x2) dX1_canWin_38 rfl rfl rfl ?_
    refine z_if_ne (q := 42) (tgt := 44) dX1_canWin_39 rfl rfl (fun hc => ?_) (fun hc => ?_)
    · have hf := hf.2 hc
      refine z_aload (q := 46) (i := 4) (x := b_8) dX1_canWin_44 rfl rfl ?_
      obtain ⟨g_13, hf⟩ := hf
      refine z_getN 9 10 (q := 49) (v := .int (h_12.I b_8 10)) rfl (z_lt rfl) (z_L9_T g_13) (z_nwm q396 rfl) dX1_canWin_46 rfl rfl ?_
      refine z_iconst (q := 50) (v := 1) dX1_canWin_49 rfl rfl ?_
      refine z_icmp_ne (q := 53) (tgt := 88) dX1_canWin_50 rfl rfl (fun hc => ?_) (fun hc => ?_)
      · have hf := hf.2 hc
        refine z_iconst (q := 89) (v := 0) dX1_canWin_88 rfl rfl ?_
        refine z_istore (q := 91) (i := 5) (ls2 := [some (.ref a0), some (.ref a1), some (.int x2), some (.int x3), some (.ref b_8), some (.int 0), none]) (x := 0) dX1_canWin_89 (z_lt rfl) rfl rfl ?_
        refine z_prune [true, false, true, true, true, true, false] (ls2 := [some (.ref a0), none, some (.int x2), some (.int x3), some (.ref b_8), some (.int 0), none]) rfl ?_
        exact hf
      · have hf := hf.1 hc
        refine z_aload (q := 55) (i := 4) (x := b_8) dX1_canWin_53 rfl rfl ?_
        refine z_aload_n (q := 56) (i := 0) (x := a0) dX1_canWin_55 rfl rfl rfl ?_
        obtain ⟨g_14, hf⟩ := hf
        obtain ⟨b_15, g_16, hf⟩ := hf
        refine z_get 0 4 (q := 59) (v := .ref b_15) rfl (z_lt rfl) (z_L0_T g_14) q510 dX1_canWin_56 rfl (z_fvR (fun _ _ _ => rfl) g_16) ?_
        obtain ⟨g_17, hf⟩ := hf
        refine z_getN 8 1 (q := 62) (v := .ref (b_15 + 3)) rfl (z_lt rfl) (z_L8_T g_17) (z_nwm q334 rfl) dX1_canWin_59 rfl (z_fvR (fun _ _ _ => rfl) (z_L8_P1 g_17)) ?_
        refine z_aload_n (q := 63) (i := 0) (x := a0) dX1_canWin_62 rfl rfl rfl ?_
        refine z_get 0 2 (q := 66) (v := .ref (a0 + 3)) rfl (z_lt rfl) (z_L0_T g_14) q507 dX1_canWin_63 rfl (z_fvR (fun _ _ _ => rfl) (z_L0_P2 g_14)) ?_
        refine z_aload_n (q := 67) (i := 0) (x := a0) dX1_canWin_66 rfl rfl rfl ?_
        obtain ⟨b_18, g_19, hf⟩ := hf
        refine z_get 0 4 (q := 70) (v := .ref b_18) rfl (z_lt rfl) (z_L0_T g_14) q510 dX1_canWin_67 rfl (z_fvR (fun _ _ _ => rfl) g_19) ?_
        obtain ⟨g_20, hf⟩ := hf
        refine z_cVi m_X10_order [] (b_18) (q := 73) (rc2 := rc_3) (rs2 := rs_5) (st := [.ref (a0 + 3), .ref (b_15 + 3), .ref b_8]) dX1_canWin_70 rfl q1364 oV_X10_order rfl rfl (z_room_of (by first | exact z_le rfl | (simp only [z_M.d, z_M.nL, z_M.lo, m_X10_order, m_X1_canWin]; omega)) (by first | exact z_le rfl | (simp only [z_M.d, z_M.nL, z_M.lo, m_X10_order, m_X1_canWin]; omega))) (z_le rfl) (z_rcv_of 8 rfl (z_L8_T g_20) rfl) rfl  rfl hf (fun x_21 h_22 hf => ?_)
        obtain ⟨n_23, g_24, hf⟩ := hf
        obtain ⟨g_25, hf⟩ := hf
        obtain ⟨b_26, g_27, hf⟩ := hf
        refine z_aald (q := 74) (n := n_23) (v := .ref b_26) g_24 (by decide) g_25 dX1_canWin_73 rfl (z_rfR g_27) ?_
        obtain ⟨g_28, hf⟩ := hf
        refine z_cVv m_X11_takes [.ref (b_15 + 3), .ref b_26] (b_8) (q := 77) (rc2 := rc_3) (rs2 := rs_5) (st := []) dX1_canWin_74 rfl q1368 oV_X11_takes rfl rfl (z_room_of (by first | exact z_le rfl | (simp only [z_M.d, z_M.nL, z_M.lo, m_X11_takes, m_X1_canWin]; omega)) (by first | exact z_le rfl | (simp only [z_M.d, z_M.nL, z_M.lo, m_X11_takes, m_X1_canWin]; omega))) (z_le rfl) (z_rcv_of 9 rfl (z_L9_T g_28) rfl) rfl  rfl hf (fun h_29 hf => ?_)
        refine z_aload_n (q := 78) (i := 0) (x := a0) dX1_canWin_77 rfl rfl rfl ?_
        refine z_aload (q := 80) (i := 4) (x := b_8) dX1_canWin_78 rfl rfl ?_
        refine z_iload_n (q := 81) (i := 2) (x := x2) dX1_canWin_80 rfl rfl rfl ?_
        refine z_iconst (q := 82) (v := 1) dX1_canWin_81 rfl rfl ?_
        refine z_isub (q := 83) dX1_canWin_82 rfl ?_
        refine z_iload_n (q := 84) (i := 3) (x := x3) dX1_canWin_83 rfl rfl rfl ?_
        obtain ⟨mc_30, hf⟩ := hf
        obtain ⟨ms_31, hf⟩ := hf
        obtain ⟨rc_32, g_33, hf⟩ := hf
        obtain ⟨rs_34, g_35, hf⟩ := hf
        obtain ⟨g_36, hf⟩ := hf
        refine z_cVi (m_X1_canWin d mc_30 ms_31) [.ref b_8, .int (x2 - 1), .int x3] (a0) (q := 87) (rc2 := rc_32) (rs2 := rs_34) (st := []) dX1_canWin_84 rfl q1581 (oV_X1_canWin _ _ _) rfl rfl (z_room_of (by first | exact z_le rfl | (simp only [z_M.d, z_M.nL, z_M.lo, m_X1_canWin, m_X1_canWin]; omega)) (by first | exact z_le rfl | (simp only [z_M.d, z_M.nL, z_M.lo, m_X1_canWin, m_X1_canWin]; omega))) (z_le rfl) (z_rcv_of 0 rfl (z_L0_T g_36) rfl) g_33  g_35 hf (fun x_37 h_38 hf => ?_)
        obtain ⟨g_39, hf⟩ := hf
        exact z_zret dX1_canWin_87 rfl (z_nb01 g_39) hf
    · have hf := hf.1 hc
      refine z_iconst (q := 43) (v := 0) dX1_canWin_42 rfl rfl ?_
      exact z_zret dX1_canWin_43 rfl (z_nb01 z_b0) hf
  · have hf := hf.1 hc
    refine z_aload_n (q := 20) (i := 0) (x := a0) dX1_canWin_19 rfl rfl rfl ?_
    refine z_iload_n (q := 21) (i := 3) (x := x3) dX1_canWin_20 rfl rfl rfl ?_
    obtain ⟨g_40, hf⟩ := hf
    refine z_putI 0 20 (q := 24) (x := x3) (v := .int x3) rfl (z_lt rfl) (z_L0_T g_40) q526 rfl dX1_canWin_21 rfl rfl rfl rfl (fun _ _ _ => rfl) ?_
    refine z_aload (q := 26) (i := 4) (x := b_8) dX1_canWin_24 rfl rfl ?_
    obtain ⟨g_41, hf⟩ := hf
    refine z_getN 9 12 (q := 29) (v := .int ((h_12.sI a0 20 x3).I b_8 12)) rfl (z_lt rfl) (z_L9_T g_41) (z_nwm q402 rfl) dX1_canWin_26 rfl rfl ?_
    have hk : z_V l G (m_X1_canWin (d + 1) mc ms) (z_Fm G (m_X1_canWin (d + 1) mc ms) Q) rc_3 rs_5 (h_12.sI a0 20 x3) 37 [some (.ref a0), some (.ref a1), some (.int x2), some (.int x3), some (.ref b_8), none, none] [.int (if ((h_12.sI a0 20 x3).I b_8 12) = 0 then 1 else 0)] := by
      exact z_zret dX1_canWin_37 rfl (z_nb01 (z_bif z_b1 z_b0)) hf
    refine z_if_ne (q := 32) (tgt := 36) dX1_canWin_29 rfl rfl (fun hc => ?_) (fun hc => ?_)
    · have hk := (z_ite hk).2 hc
      refine z_iconst (q := 37) (v := 0) dX1_canWin_36 rfl rfl ?_
      exact hk
    · have hk := (z_ite hk).1 hc
      refine z_iconst (q := 33) (v := 1) dX1_canWin_32 rfl rfl ?_
      refine z_goto (q := 37) dX1_canWin_33 rfl ?_
      exact hk

theorem b_X1_canWin_91 {l : Launch} {G : z_G} {d : Nat} {mc ms : Nat} {rc rs : Nat} {a0 : Nat} {x2 : Int32} {x3 : Int32} {a4 : Nat} {x5 : Int32} {h : z_H} {Q : z_Q}  (hf : (5 ≤ x5 → Q (some (.int 0)) h) ∧ (¬ 5 ≤ x5 → ∃ mc_1, ∃ ms_2, ∃ rc_3, rc = rc_3 + mc_1 ∧ ∃ rs_5, rs = rs_5 + ms_2 ∧ z_L0 h a0 ∧ z_Ct l G (m_X1_tried mc_1 ms_2) [.ref a0, .int ((2 * x2) + 1), .ref a4] h (z_Qr (fun b_8 h_9 => z_L0 h_9 a0 ∧ ∃ b_11, (h_9.P a0 4) = some b_11 ∧ z_L8 h_9 b_11 ∧ vp_in x5 5 ∧ ∃ b_15, (h_9.P (a0 + 3) (Int32.toNatClampNeg x5)) = some b_15 ∧ z_L9 h_9 b_8 ∧ z_Ct l G m_X11_takes [.ref b_8, .ref (b_11 + 3), .ref b_15] h_9 (z_Qv (fun h_18 => z_L0 h_18 a0 ∧ vp_in x3 6 ∧ ∃ mc_21, ∃ ms_22, ∃ rc_23, rc_3 = rc_23 + mc_21 ∧ ∃ rs_25, rs_5 = rs_25 + ms_22 ∧ z_Ct l G (m_X1_canWin d mc_21 ms_22) [.ref a0, .ref b_8, .int (x2 - 1), .int (x3 + 1)] (h_18.sI (a0 + 57) (Int32.toNatClampNeg x3) x5) (z_Qi (fun x_27 h_28 => (x_27 = 0 → z_V l G (m_X1_canWin (d + 1) mc ms) (z_Fm G (m_X1_canWin (d + 1) mc ms) Q) rc_23 rs_25 h_28 91 [some (.ref a0), none, some (.int x2), some (.int x3), some (.ref a4), some (.int (x5 + 1)), none] []) ∧ (¬ x_27 = 0 → Q (some (.int 1)) h_28))))))))) : z_V l G (m_X1_canWin (d + 1) mc ms) (z_Fm G (m_X1_canWin (d + 1) mc ms) Q) rc rs h 91 [some (.ref a0), none, some (.int x2), some (.int x3), some (.ref a4), some (.int x5), none] [] := by
  refine z_iload (q := 93) (i := 5) (x := x5) dX1_canWin_91 rfl rfl ?_
  refine z_iconst (q := 94) (v := 5) dX1_canWin_93 rfl rfl ?_
  refine z_icmp_ge (q := 97) (tgt := 160) dX1_canWin_94 rfl rfl (fun hc => ?_) (fun hc => ?_)
  · have hf := hf.1 hc
    refine z_iconst (q := 161) (v := 0) dX1_canWin_160 rfl rfl ?_
    exact z_zret dX1_canWin_161 rfl (z_nb01 z_b0) hf
  · have hf := hf.2 hc
    refine z_aload_n (q := 98) (i := 0) (x := a0) dX1_canWin_97 rfl rfl rfl ?_
    refine z_iconst (q := 99) (v := 2) dX1_canWin_98 rfl rfl ?_
    refine z_iload_n (q := 100) (i := 2) (x := x2) dX1_canWin_99 rfl rfl rfl ?_
    refine z_imul (q := 101) dX1_canWin_100 rfl ?_
    refine z_iconst (q := 102) (v := 1) dX1_canWin_101 rfl rfl ?_
    refine z_iadd (q := 103) dX1_canWin_102 rfl ?_
    refine z_aload (q := 105) (i := 4) (x := a4) dX1_canWin_103 rfl rfl ?_
    obtain ⟨mc_1, hf⟩ := hf
    obtain ⟨ms_2, hf⟩ := hf
    obtain ⟨rc_3, g_4, hf⟩ := hf
    obtain ⟨rs_5, g_6, hf⟩ := hf
    obtain ⟨g_7, hf⟩ := hf
    refine z_cVr (m_X1_tried mc_1 ms_2) [.int ((2 * x2) + 1), .ref a4] (a0) (q := 108) (rc2 := rc_3) (rs2 := rs_5) (st := []) dX1_canWin_105 rfl q1585 (oV_X1_tried _ _) rfl rfl (z_room_of (by first | exact z_le rfl | (simp only [z_M.d, z_M.nL, z_M.lo, m_X1_tried, m_X1_canWin]; omega)) (by first | exact z_le rfl | (simp only [z_M.d, z_M.nL, z_M.lo, m_X1_tried, m_X1_canWin]; omega))) (z_le rfl) (z_rcv_of 0 rfl (z_L0_T g_7) rfl) g_4  g_6 hf (fun b_8 h_9 hf => ?_)
    refine z_astore (q := 110) (i := 6) (ls2 := [some (.ref a0), none, some (.int x2), some (.int x3), some (.ref a4), some (.int x5), some (.ref b_8)]) (x := b_8) dX1_canWin_108 (z_lt rfl) rfl rfl ?_
    refine z_aload (q := 112) (i := 6) (x := b_8) dX1_canWin_110 rfl rfl ?_
    refine z_aload_n (q := 113) (i := 0) (x := a0) dX1_canWin_112 rfl rfl rfl ?_
    obtain ⟨g_10, hf⟩ := hf
    obtain ⟨b_11, g_12, hf⟩ := hf
    refine z_get 0 4 (q := 116) (v := .ref b_11) rfl (z_lt rfl) (z_L0_T g_10) q510 dX1_canWin_113 rfl (z_fvR (fun _ _ _ => rfl) g_12) ?_
    obtain ⟨g_13, hf⟩ := hf
    refine z_getN 8 1 (q := 119) (v := .ref (b_11 + 3)) rfl (z_lt rfl) (z_L8_T g_13) (z_nwm q334 rfl) dX1_canWin_116 rfl (z_fvR (fun _ _ _ => rfl) (z_L8_P1 g_13)) ?_
    refine z_aload_n (q := 120) (i := 0) (x := a0) dX1_canWin_119 rfl rfl rfl ?_
    refine z_get 0 2 (q := 123) (v := .ref (a0 + 3)) rfl (z_lt rfl) (z_L0_T g_10) q507 dX1_canWin_120 rfl (z_fvR (fun _ _ _ => rfl) (z_L0_P2 g_10)) ?_
    refine z_iload (q := 125) (i := 5) (x := x5) dX1_canWin_123 rfl rfl ?_
    obtain ⟨g_14, hf⟩ := hf
    obtain ⟨b_15, g_16, hf⟩ := hf
    refine z_aald (q := 126) (n := 5) (v := .ref b_15) (z_L0_A2 g_10) (by decide) g_14 dX1_canWin_125 rfl (z_rfR g_16) ?_
    obtain ⟨g_17, hf⟩ := hf
    refine z_cVv m_X11_takes [.ref (b_11 + 3), .ref b_15] (b_8) (q := 129) (rc2 := rc_3) (rs2 := rs_5) (st := []) dX1_canWin_126 rfl q1368 oV_X11_takes rfl rfl (z_room_of (by first | exact z_le rfl | (simp only [z_M.d, z_M.nL, z_M.lo, m_X11_takes, m_X1_canWin]; omega)) (by first | exact z_le rfl | (simp only [z_M.d, z_M.nL, z_M.lo, m_X11_takes, m_X1_canWin]; omega))) (z_le rfl) (z_rcv_of 9 rfl (z_L9_T g_17) rfl) rfl  rfl hf (fun h_18 hf => ?_)
    refine z_aload_n (q := 130) (i := 0) (x := a0) dX1_canWin_129 rfl rfl rfl ?_
    obtain ⟨g_19, hf⟩ := hf
    refine z_get 0 18 (q := 133) (v := .ref (a0 + 57)) rfl (z_lt rfl) (z_L0_T g_19) q524 dX1_canWin_130 rfl (z_fvR (fun _ _ _ => rfl) (z_L0_P18 g_19)) ?_
    refine z_iload_n (q := 134) (i := 3) (x := x3) dX1_canWin_133 rfl rfl rfl ?_
    refine z_iload (q := 136) (i := 5) (x := x5) dX1_canWin_134 rfl rfl ?_
    obtain ⟨g_20, hf⟩ := hf
    refine z_iast (q := 137) (n := 6) (z_L0_A18 g_19) g_20 dX1_canWin_136 rfl ?_
    refine z_aload_n (q := 138) (i := 0) (x := a0) dX1_canWin_137 rfl rfl rfl ?_
    refine z_aload (q := 140) (i := 6) (x := b_8) dX1_canWin_138 rfl rfl ?_
    refine z_iload_n (q := 141) (i := 2) (x := x2) dX1_canWin_140 rfl rfl rfl ?_
    refine z_iconst (q := 142) (v := 1) dX1_canWin_141 rfl rfl ?_
    refine z_isub (q := 143) dX1_canWin_142 rfl ?_
    refine z_iload_n (q := 144) (i := 3) (x := x3) dX1_canWin_143 rfl rfl rfl ?_
    refine z_iconst (q := 145) (v := 1) dX1_canWin_144 rfl rfl ?_
    refine z_iadd (q := 146) dX1_canWin_145 rfl ?_
    obtain ⟨mc_21, hf⟩ := hf
    obtain ⟨ms_22, hf⟩ := hf
    obtain ⟨rc_23, g_24, hf⟩ := hf
    obtain ⟨rs_25, g_26, hf⟩ := hf
    refine z_cVi (m_X1_canWin d mc_21 ms_22) [.ref b_8, .int (x2 - 1), .int (x3 + 1)] (a0) (q := 149) (rc2 := rc_23) (rs2 := rs_25) (st := []) dX1_canWin_146 rfl q1581 (oV_X1_canWin _ _ _) rfl rfl (z_room_of (by first | exact z_le rfl | (simp only [z_M.d, z_M.nL, z_M.lo, m_X1_canWin, m_X1_canWin]; omega)) (by first | exact z_le rfl | (simp only [z_M.d, z_M.nL, z_M.lo, m_X1_canWin, m_X1_canWin]; omega))) (z_le rfl) (z_rcv_of 0 rfl (z_L0_T g_19) rfl) g_24  g_26 hf (fun x_27 h_28 hf => ?_)
    refine z_if_eq (q := 152) (tgt := 154) dX1_canWin_149 rfl rfl (fun hc => ?_) (fun hc => ?_)
    · have hf := hf.1 hc
      refine z_iinc (q := 157) (i := 5) (x := x5) (v := (x5 + 1)) (ls2 := [some (.ref a0), none, some (.int x2), some (.int x3), some (.ref a4), some (.int (x5 + 1)), some (.ref b_8)]) dX1_canWin_154 rfl rfl (z_lt rfl) rfl rfl ?_
      refine z_goto (q := 91) dX1_canWin_157 rfl ?_
      refine z_prune [true, false, true, true, true, true, false] (ls2 := [some (.ref a0), none, some (.int x2), some (.int x3), some (.ref a4), some (.int (x5 + 1)), none]) rfl ?_
      exact hf
    · have hf := hf.2 hc
      refine z_iconst (q := 153) (v := 1) dX1_canWin_152 rfl rfl ?_
      exact z_zret dX1_canWin_153 rfl (z_nb01 z_b1) hf

theorem u_X1_card {l : Launch} {G : z_G} {a0 : Nat} {x1 : Int32} {x2 : Int32} {h : z_H} {Q : z_Q} (hst : l.stackTraces = false)  (hf : z_Ct l G m_X1_isSide [.int x1] h (z_Qi (fun x_1 h_2 => (x_1 = 0 → Q (some (.int (-1))) h_2) ∧ (¬ x_1 = 0 → z_L0 h_2 a0 ∧ z_Ct l G m_X11_cards [.ref (a0 + 23), .int x1] h_2 (z_Qi (fun x_5 h_6 => z_Ct l G m_X1_in [.int x2, .int 0, .int (x_5 - 1)] h_6 (z_Qi (fun x_7 h_8 => (x_7 = 0 → Q (some (.int (-1))) h_8) ∧ (¬ x_7 = 0 → z_L0 h_8 a0 ∧ z_Ct l G m_X11_card [.ref (a0 + 23), .int x1, .int x2] h_8 (z_Qi (fun x_11 h_12 => Q (some (.int x_11)) h_12))))))))))) : z_Ct l G m_X1_card [.ref a0, .int x1, .int x2] h Q := by
  refine z_Ct.of (ls := [some (.ref a0), some (.int x1), some (.int x2)]) hst rfl (by show plainName yX1_card.cls = true; decide +kernel) (z_le rfl) rfl ?_
  show z_V l G m_X1_card (z_Fm G m_X1_card Q) 0 0 h 0 [some (.ref a0), some (.int x1), some (.int x2)] []
  refine z_iload_n (q := 1) (i := 1) (x := x1) dX1_card_0 rfl rfl rfl ?_
  refine z_cSi m_X1_isSide [.int x1] (q := 4) (rc2 := 0) (rs2 := 0) (st := []) dX1_card_1 rfl q1274 oS_X1_isSide rfl rfl ⟨z_le rfl, z_le rfl⟩ (z_le rfl) rfl  rfl hf (fun x_1 h_2 hf => ?_)
  refine z_if_eq (q := 7) (tgt := 37) dX1_card_4 rfl rfl (fun hc => ?_) (fun hc => ?_)
  · have hf := hf.1 hc
    refine z_iconst (q := 38) (v := (-1)) dX1_card_37 rfl rfl ?_
    exact z_iret dX1_card_38 rfl hf
  · have hf := hf.2 hc
    refine z_iload_n (q := 8) (i := 2) (x := x2) dX1_card_7 rfl rfl rfl ?_
    refine z_iconst (q := 9) (v := 0) dX1_card_8 rfl rfl ?_
    refine z_aload_n (q := 10) (i := 0) (x := a0) dX1_card_9 rfl rfl rfl ?_
    obtain ⟨g_4, hf⟩ := hf
    refine z_get 0 6 (q := 13) (v := .ref (a0 + 23)) rfl (z_lt rfl) (z_L0_T g_4) q512 dX1_card_10 rfl (z_fvR (fun _ _ _ => rfl) (z_L0_P6 g_4)) ?_
    refine z_iload_n (q := 14) (i := 1) (x := x1) dX1_card_13 rfl rfl rfl ?_
    refine z_cVi m_X11_cards [.int x1] ((a0 + 23)) (q := 17) (rc2 := 0) (rs2 := 0) (st := [.int 0, .int x2]) dX1_card_14 rfl q1262 oV_X11_cards rfl rfl ⟨z_le rfl, z_le rfl⟩ (z_le rfl) (z_rcv_of 9 rfl (z_L9_T (z_L0_N6 g_4)) rfl) rfl  rfl hf (fun x_5 h_6 hf => ?_)
    refine z_iconst (q := 18) (v := 1) dX1_card_17 rfl rfl ?_
    refine z_isub (q := 19) dX1_card_18 rfl ?_
    refine z_cSi m_X1_in [.int x2, .int 0, .int (x_5 - 1)] (q := 22) (rc2 := 0) (rs2 := 0) (st := []) dX1_card_19 rfl q1259 oS_X1_in rfl rfl ⟨z_le rfl, z_le rfl⟩ (z_le rfl) rfl  rfl hf (fun x_7 h_8 hf => ?_)
    refine z_if_eq (q := 25) (tgt := 37) dX1_card_22 rfl rfl (fun hc => ?_) (fun hc => ?_)
    · have hf := hf.1 hc
      refine z_iconst (q := 38) (v := (-1)) dX1_card_37 rfl rfl ?_
      exact z_iret dX1_card_38 rfl hf
    · have hf := hf.2 hc
      refine z_aload_n (q := 26) (i := 0) (x := a0) dX1_card_25 rfl rfl rfl ?_
      obtain ⟨g_10, hf⟩ := hf
      refine z_get 0 6 (q := 29) (v := .ref (a0 + 23)) rfl (z_lt rfl) (z_L0_T g_10) q512 dX1_card_26 rfl (z_fvR (fun _ _ _ => rfl) (z_L0_P6 g_10)) ?_
      refine z_iload_n (q := 30) (i := 1) (x := x1) dX1_card_29 rfl rfl rfl ?_
      refine z_iload_n (q := 31) (i := 2) (x := x2) dX1_card_30 rfl rfl rfl ?_
      refine z_cVi m_X11_card [.int x1, .int x2] ((a0 + 23)) (q := 34) (rc2 := 0) (rs2 := 0) (st := []) dX1_card_31 rfl q1266 oV_X11_card rfl rfl ⟨z_le rfl, z_le rfl⟩ (z_le rfl) (z_rcv_of 9 rfl (z_L9_T (z_L0_N6 g_10)) rfl) rfl  rfl hf (fun x_11 h_12 hf => ?_)
      refine z_goto (q := 38) dX1_card_34 rfl ?_
      exact z_iret dX1_card_38 rfl hf

theorem u_X1_changes {l : Launch} {G : z_G} {a0 : Nat} {x1 : Int32} {x2 : Int32} {h : z_H} {Q : z_Q} (hst : l.stackTraces = false)  (hf : z_L0 h a0 ∧ vp_in x1 24 ∧ ∀ v_3 : Int32, v_3 = (h.I (a0 + 55) (Int32.toNatClampNeg x1)) → vp_in x2 24 ∧ vp_in x1 24 ∧ vp_in x2 24 ∧ Q none ((h.sI (a0 + 55) (Int32.toNatClampNeg x1) (h.I (a0 + 55) (Int32.toNatClampNeg x2))).sI (a0 + 55) (Int32.toNatClampNeg x2) v_3)) : z_Ct l G m_X1_changes [.ref a0, .int x1, .int x2] h Q := by
  refine z_Ct.of (ls := [some (.ref a0), some (.int x1), some (.int x2), none]) hst rfl (by show plainName yX1_changes.cls = true; decide +kernel) (z_le rfl) rfl ?_
  show z_V l G m_X1_changes (z_Fm G m_X1_changes Q) 0 0 h 0 [some (.ref a0), some (.int x1), some (.int x2), none] []
  refine z_aload_n (q := 1) (i := 0) (x := a0) dX1_changes_0 rfl rfl rfl ?_
  obtain ⟨g_1, hf⟩ := hf
  refine z_get 0 15 (q := 4) (v := .ref (a0 + 55)) rfl (z_lt rfl) (z_L0_T g_1) q521 dX1_changes_1 rfl (z_fvR (fun _ _ _ => rfl) (z_L0_P15 g_1)) ?_
  refine z_iload_n (q := 5) (i := 1) (x := x1) dX1_changes_4 rfl rfl rfl ?_
  obtain ⟨g_2, hf⟩ := hf
  refine z_iald (q := 6) (n := 24) (z_L0_A15 g_1) g_2 dX1_changes_5 rfl ?_
  refine z_nmI (fun v_3 hv_4 => ?_)
  have hf := hf v_3 hv_4
  refine z_istore_n (q := 7) (i := 3) (ls2 := [some (.ref a0), some (.int x1), some (.int x2), some (.int v_3)]) (x := v_3) dX1_changes_6 rfl (z_lt rfl) rfl rfl ?_
  refine z_aload_n (q := 8) (i := 0) (x := a0) dX1_changes_7 rfl rfl rfl ?_
  refine z_get 0 15 (q := 11) (v := .ref (a0 + 55)) rfl (z_lt rfl) (z_L0_T g_1) q521 dX1_changes_8 rfl (z_fvR (fun _ _ _ => rfl) (z_L0_P15 g_1)) ?_
  refine z_iload_n (q := 12) (i := 1) (x := x1) dX1_changes_11 rfl rfl rfl ?_
  refine z_aload_n (q := 13) (i := 0) (x := a0) dX1_changes_12 rfl rfl rfl ?_
  refine z_get 0 15 (q := 16) (v := .ref (a0 + 55)) rfl (z_lt rfl) (z_L0_T g_1) q521 dX1_changes_13 rfl (z_fvR (fun _ _ _ => rfl) (z_L0_P15 g_1)) ?_
  refine z_iload_n (q := 17) (i := 2) (x := x2) dX1_changes_16 rfl rfl rfl ?_
  obtain ⟨g_5, hf⟩ := hf
  refine z_iald (q := 18) (n := 24) (z_L0_A15 g_1) g_5 dX1_changes_17 rfl ?_
  obtain ⟨g_6, hf⟩ := hf
  refine z_iast (q := 19) (n := 24) (z_L0_A15 g_1) g_6 dX1_changes_18 rfl ?_
  refine z_aload_n (q := 20) (i := 0) (x := a0) dX1_changes_19 rfl rfl rfl ?_
  refine z_get 0 15 (q := 23) (v := .ref (a0 + 55)) rfl (z_lt rfl) (z_L0_T g_1) q521 dX1_changes_20 rfl (z_fvR (fun _ _ _ => rfl) (z_L0_P15 g_1)) ?_
  refine z_iload_n (q := 24) (i := 2) (x := x2) dX1_changes_23 rfl rfl rfl ?_
  refine z_iload_n (q := 25) (i := 3) (x := v_3) dX1_changes_24 rfl rfl rfl ?_
  obtain ⟨g_7, hf⟩ := hf
  refine z_iast (q := 26) (n := 24) (z_L0_A15 g_1) g_7 dX1_changes_25 rfl ?_
  exact z_vret dX1_changes_26 rfl hf

theorem u_X1_choice {l : Launch} {G : z_G} {mc ms : Nat} {a0 : Nat} {x1 : Int32} {x2 : Int32} {h : z_H} {Q : z_Q} (hst : l.stackTraces = false)  (hf : z_Ct l G m_X1_in [.int x1, .int 1, .int 6] h (z_Qi (fun x_1 h_2 => (x_1 = 0 → Q (some (.int (-1))) h_2) ∧ (¬ x_1 = 0 → z_Ct l G m_X1_in [.int x2, .int (-1), .int 5] h_2 (z_Qi (fun x_3 h_4 => (x_3 = 0 → Q (some (.int (-1))) h_4) ∧ (¬ x_3 = 0 → z_L0 h_4 a0 ∧ ((h_4.I (a0 + 23) 16) = 0 → z_V l G (m_X1_choice mc ms) (z_Fm G (m_X1_choice mc ms) Q) mc ms h_4 33 [some (.ref a0), some (.int x1), some (.int x2), some (.int 0)] []) ∧ (¬ (h_4.I (a0 + 23) 16) = 0 → Q (some (.int (-1))) h_4)))))))) : z_Ct l G (m_X1_choice mc ms) [.ref a0, .int x1, .int x2] h Q := by
  refine z_Ct.of (ls := [some (.ref a0), some (.int x1), some (.int x2), none]) hst rfl (by show plainName yX1_choice.cls = true; decide +kernel) (z_le rfl) rfl ?_
  show z_V l G (m_X1_choice mc ms) (z_Fm G (m_X1_choice mc ms) Q) mc ms h 0 [some (.ref a0), some (.int x1), some (.int x2), none] []
  refine z_iload_n (q := 1) (i := 1) (x := x1) dX1_choice_0 rfl rfl rfl ?_
  refine z_iconst (q := 2) (v := 1) dX1_choice_1 rfl rfl ?_
  refine z_bipush (q := 4) (v := 6) dX1_choice_2 (by decide) rfl ?_
  refine z_cSi m_X1_in [.int x1, .int 1, .int 6] (q := 7) (rc2 := mc) (rs2 := ms) (st := []) dX1_choice_4 rfl q1259 oS_X1_in rfl rfl ⟨z_le rfl, z_le rfl⟩ (z_le rfl) rfl  rfl hf (fun x_1 h_2 hf => ?_)
  refine z_if_eq (q := 10) (tgt := 29) dX1_choice_7 rfl rfl (fun hc => ?_) (fun hc => ?_)
  · have hf := hf.1 hc
    refine z_iconst (q := 30) (v := (-1)) dX1_choice_29 rfl rfl ?_
    exact z_iret dX1_choice_30 rfl hf
  · have hf := hf.2 hc
    refine z_iload_n (q := 11) (i := 2) (x := x2) dX1_choice_10 rfl rfl rfl ?_
    refine z_iconst (q := 12) (v := (-1)) dX1_choice_11 rfl rfl ?_
    refine z_iconst (q := 13) (v := 5) dX1_choice_12 rfl rfl ?_
    refine z_cSi m_X1_in [.int x2, .int (-1), .int 5] (q := 16) (rc2 := mc) (rs2 := ms) (st := []) dX1_choice_13 rfl q1259 oS_X1_in rfl rfl ⟨z_le rfl, z_le rfl⟩ (z_le rfl) rfl  rfl hf (fun x_3 h_4 hf => ?_)
    refine z_if_eq (q := 19) (tgt := 29) dX1_choice_16 rfl rfl (fun hc => ?_) (fun hc => ?_)
    · have hf := hf.1 hc
      refine z_iconst (q := 30) (v := (-1)) dX1_choice_29 rfl rfl ?_
      exact z_iret dX1_choice_30 rfl hf
    · have hf := hf.2 hc
      refine z_aload_n (q := 20) (i := 0) (x := a0) dX1_choice_19 rfl rfl rfl ?_
      obtain ⟨g_5, hf⟩ := hf
      refine z_get 0 6 (q := 23) (v := .ref (a0 + 23)) rfl (z_lt rfl) (z_L0_T g_5) q512 dX1_choice_20 rfl (z_fvR (fun _ _ _ => rfl) (z_L0_P6 g_5)) ?_
      refine z_getN 9 16 (q := 26) (v := .int (h_4.I (a0 + 23) 16)) rfl (z_lt rfl) (z_L9_T (z_L0_N6 g_5)) (z_nwm q412 rfl) dX1_choice_23 rfl rfl ?_
      refine z_if_eq (q := 29) (tgt := 31) dX1_choice_26 rfl rfl (fun hc => ?_) (fun hc => ?_)
      · have hf := hf.1 hc
        refine z_iconst (q := 32) (v := 0) dX1_choice_31 rfl rfl ?_
        refine z_istore_n (q := 33) (i := 3) (ls2 := [some (.ref a0), some (.int x1), some (.int x2), some (.int 0)]) (x := 0) dX1_choice_32 rfl (z_lt rfl) rfl rfl ?_
        exact hf
      · have hf := hf.2 hc
        refine z_iconst (q := 30) (v := (-1)) dX1_choice_29 rfl rfl ?_
        exact z_iret dX1_choice_30 rfl hf

theorem b_X1_choice_33 {l : Launch} {G : z_G} {mc ms : Nat} {rc rs : Nat} {a0 : Nat} {x1 : Int32} {x2 : Int32} {x3 : Int32} {h : z_H} {Q : z_Q}  (hf : (x1 < x3 → Q (some (.int (-1))) h) ∧ (¬ x1 < x3 → z_L0 h a0 ∧ ∃ mc_2, ∃ ms_3, ∃ rc_4, rc = rc_4 + mc_2 ∧ ∃ rs_6, rs = rs_6 + ms_3 ∧ z_Ct l G (m_X1_canWin 7 mc_2 ms_3) [.ref a0, .ref (a0 + 23), .int x3, .int 0] h (z_Qi (fun x_8 h_9 => (x_8 = 0 → z_V l G (m_X1_choice mc ms) (z_Fm G (m_X1_choice mc ms) Q) rc_4 rs_6 h_9 33 [some (.ref a0), some (.int x1), some (.int x2), some (.int (x3 + 1))] []) ∧ (¬ x_8 = 0 → z_L0 h_9 a0 ∧ ((x2 = (-1) → True) ∧ (¬ x2 = (-1) → ((h_9.I a0 20) ≤ x2 → True) ∧ (¬ (h_9.I a0 20) ≤ x2 → vp_in x2 6 ∧ True))) ∧ Q (some (.int (if x2 = (-1) then x3 else (if (h_9.I a0 20) ≤ x2 then (-1) else (h_9.I (a0 + 57) (Int32.toNatClampNeg x2)))))) h_9))))) : z_V l G (m_X1_choice mc ms) (z_Fm G (m_X1_choice mc ms) Q) rc rs h 33 [some (.ref a0), some (.int x1), some (.int x2), some (.int x3)] [] := by
  refine z_iload_n (q := 34) (i := 3) (x := x3) dX1_choice_33 rfl rfl rfl ?_
  refine z_iload_n (q := 35) (i := 1) (x := x1) dX1_choice_34 rfl rfl rfl ?_
  refine z_icmp_gt (q := 38) (tgt := 85) dX1_choice_35 rfl rfl (fun hc => ?_) (fun hc => ?_)
  · have hf := hf.1 hc
    refine z_iconst (q := 86) (v := (-1)) dX1_choice_85 rfl rfl ?_
    exact z_iret dX1_choice_86 rfl hf
  · have hf := hf.2 hc
    refine z_aload_n (q := 39) (i := 0) (x := a0) dX1_choice_38 rfl rfl rfl ?_
    refine z_aload_n (q := 40) (i := 0) (x := a0) dX1_choice_39 rfl rfl rfl ?_
    obtain ⟨g_1, hf⟩ := hf
    refine z_get 0 6 (q := 43) (v := .ref (a0 + 23)) rfl (z_lt rfl) (z_L0_T g_1) q512 dX1_choice_40 rfl (z_fvR (fun _ _ _ => rfl) (z_L0_P6 g_1)) ?_
    refine z_iload_n (q := 44) (i := 3) (x := x3) dX1_choice_43 rfl rfl rfl ?_
    refine z_iconst (q := 45) (v := 0) dX1_choice_44 rfl rfl ?_
    obtain ⟨mc_2, hf⟩ := hf
    obtain ⟨ms_3, hf⟩ := hf
    obtain ⟨rc_4, g_5, hf⟩ := hf
    obtain ⟨rs_6, g_7, hf⟩ := hf
    refine z_cVi (m_X1_canWin 7 mc_2 ms_3) [.ref (a0 + 23), .int x3, .int 0] (a0) (q := 48) (rc2 := rc_4) (rs2 := rs_6) (st := []) dX1_choice_45 rfl q1581 (oV_X1_canWin _ _ _) rfl rfl (z_room_of (by first | exact z_le rfl | (simp only [z_M.d, z_M.nL, z_M.lo, m_X1_canWin, m_X1_choice]; omega)) (by first | exact z_le rfl | (simp only [z_M.d, z_M.nL, z_M.lo, m_X1_canWin, m_X1_choice]; omega))) (z_le rfl) (z_rcv_of 0 rfl (z_L0_T g_1) rfl) g_5  g_7 hf (fun x_8 h_9 hf => ?_)
    refine z_if_eq (q := 51) (tgt := 79) dX1_choice_48 rfl rfl (fun hc => ?_) (fun hc => ?_)
    · have hf := hf.1 hc
      refine z_iinc (q := 82) (i := 3) (x := x3) (v := (x3 + 1)) (ls2 := [some (.ref a0), some (.int x1), some (.int x2), some (.int (x3 + 1))]) dX1_choice_79 rfl rfl (z_lt rfl) rfl rfl ?_
      refine z_goto (q := 33) dX1_choice_82 rfl ?_
      exact hf
    · have hf := hf.2 hc
      refine z_iload_n (q := 52) (i := 2) (x := x2) dX1_choice_51 rfl rfl rfl ?_
      refine z_iconst (q := 53) (v := (-1)) dX1_choice_52 rfl rfl ?_
      obtain ⟨g_10, hf⟩ := hf
      obtain ⟨hsc, hf⟩ := hf
      have hk : z_V l G (m_X1_choice mc ms) (z_Fm G (m_X1_choice mc ms) Q) rc_4 rs_6 h_9 78 [some (.ref a0), some (.int x1), some (.int x2), some (.int x3)] [.int (if x2 = (-1) then x3 else (if (h_9.I a0 20) ≤ x2 then (-1) else (h_9.I (a0 + 57) (Int32.toNatClampNeg x2))))] := by
        exact z_iret dX1_choice_78 rfl hf
      refine z_icmp_ne (q := 56) (tgt := 60) dX1_choice_53 rfl rfl (fun hc => ?_) (fun hc => ?_)
      · have hk := (z_ite hk).2 hc
        have hsc := hsc.2 hc
        refine z_iload_n (q := 61) (i := 2) (x := x2) dX1_choice_60 rfl rfl rfl ?_
        refine z_aload_n (q := 62) (i := 0) (x := a0) dX1_choice_61 rfl rfl rfl ?_
        refine z_get 0 20 (q := 65) (v := .int (h_9.I a0 20)) rfl (z_lt rfl) (z_L0_T g_10) q526 dX1_choice_62 rfl rfl ?_
        refine z_icmp_ge (q := 68) (tgt := 77) dX1_choice_65 rfl rfl (fun hc => ?_) (fun hc => ?_)
        · have hk := (z_ite hk).1 hc
          have hsc := hsc.1 hc
          refine z_iconst (q := 78) (v := (-1)) dX1_choice_77 rfl rfl ?_
          exact hk
        · have hk := (z_ite hk).2 hc
          have hsc := hsc.2 hc
          obtain ⟨g_11, hsc⟩ := hsc
          refine z_aload_n (q := 69) (i := 0) (x := a0) dX1_choice_68 rfl rfl rfl ?_
          refine z_get 0 18 (q := 72) (v := .ref (a0 + 57)) rfl (z_lt rfl) (z_L0_T g_10) q524 dX1_choice_69 rfl (z_fvR (fun _ _ _ => rfl) (z_L0_P18 g_10)) ?_
          refine z_iload_n (q := 73) (i := 2) (x := x2) dX1_choice_72 rfl rfl rfl ?_
          refine z_iald (q := 74) (n := 6) (z_L0_A18 g_10) g_11 dX1_choice_73 rfl ?_
          refine z_goto (q := 78) dX1_choice_74 rfl ?_
          exact hk
      · have hk := (z_ite hk).1 hc
        have hsc := hsc.1 hc
        refine z_iload_n (q := 57) (i := 3) (x := x3) dX1_choice_56 rfl rfl rfl ?_
        refine z_goto (q := 78) dX1_choice_57 rfl ?_
        exact hk

theorem u_X1_clear {l : Launch} {G : z_G} {a0 : Nat} {h : z_H} {Q : z_Q} (hst : l.stackTraces = false)  (hf : z_L0 h a0 ∧ Q (some (.int 1)) (h.sI (a0 + 23) 22 0)) : z_Ct l G m_X1_clear [.ref a0] h Q := by
  refine z_Ct.of (ls := [some (.ref a0)]) hst rfl (by show plainName yX1_clear.cls = true; decide +kernel) (z_le rfl) rfl ?_
  show z_V l G m_X1_clear (z_Fm G m_X1_clear Q) 0 0 h 0 [some (.ref a0)] []
  refine z_aload_n (q := 1) (i := 0) (x := a0) dX1_clear_0 rfl rfl rfl ?_
  obtain ⟨g_1, hf⟩ := hf
  refine z_get 0 6 (q := 4) (v := .ref (a0 + 23)) rfl (z_lt rfl) (z_L0_T g_1) q512 dX1_clear_1 rfl (z_fvR (fun _ _ _ => rfl) (z_L0_P6 g_1)) ?_
  refine z_iconst (q := 5) (v := 0) dX1_clear_4 rfl rfl ?_
  refine z_putIN 9 22 (q := 8) (x := 0) (v := .int 0) rfl (z_lt rfl) (z_L9_T (z_L0_N6 g_1)) (z_nwm q424 rfl) rfl dX1_clear_5 rfl rfl rfl rfl (fun _ _ _ => rfl) ?_
  refine z_iconst (q := 9) (v := 1) dX1_clear_8 rfl rfl ?_
  exact z_zret dX1_clear_9 rfl (z_nb01 z_b1) hf

theorem u_X1_comes {l : Launch} {G : z_G} {a0 : Nat} {x1 : Int32} {h : z_H} {Q : z_Q} (hst : l.stackTraces = false)  (hf : z_L0 h a0 ∧ z_Ct l G m_X1_isKind [.ref a0, .int x1] h (z_Qi (fun x_2 h_3 => (x_2 = 0 → Q (some (.int (-1))) h_3) ∧ (¬ x_2 = 0 → z_L0 h_3 a0 ∧ z_Ct l G m_J5_min [.int 12, .int (h_3.I (a0 + 23) 21)] h_3 (z_Qi (fun x_5 h_6 => ((h_3.I (a0 + 23) 22) = x_5 → Q (some (.int (-1))) h_6) ∧ (¬ (h_3.I (a0 + 23) 22) = x_5 → z_L0 h_6 a0 ∧ vp_in (h_6.I (a0 + 23) 22) 12 ∧ Q (some (.int ((h_6.I (a0 + 23) 22) + 1))) ((h_6.sI (a0 + 23) 22 ((h_6.I (a0 + 23) 22) + 1)).sI (a0 + 35) (Int32.toNatClampNeg (h_6.I (a0 + 23) 22)) x1)))))))) : z_Ct l G m_X1_comes [.ref a0, .int x1] h Q := by
  refine z_Ct.of (ls := [some (.ref a0), some (.int x1)]) hst rfl (by show plainName yX1_comes.cls = true; decide +kernel) (z_le rfl) rfl ?_
  show z_V l G m_X1_comes (z_Fm G m_X1_comes Q) 0 0 h 0 [some (.ref a0), some (.int x1)] []
  refine z_aload_n (q := 1) (i := 0) (x := a0) dX1_comes_0 rfl rfl rfl ?_
  refine z_iload_n (q := 2) (i := 1) (x := x1) dX1_comes_1 rfl rfl rfl ?_
  obtain ⟨g_1, hf⟩ := hf
  refine z_cVi m_X1_isKind [.int x1] (a0) (q := 5) (rc2 := 0) (rs2 := 0) (st := []) dX1_comes_2 rfl q1250 oV_X1_isKind rfl rfl ⟨z_le rfl, z_le rfl⟩ (z_le rfl) (z_rcv_of 0 rfl (z_L0_T g_1) rfl) rfl  rfl hf (fun x_2 h_3 hf => ?_)
  refine z_if_eq (q := 8) (tgt := 30) dX1_comes_5 rfl rfl (fun hc => ?_) (fun hc => ?_)
  · have hf := hf.1 hc
    refine z_iconst (q := 31) (v := (-1)) dX1_comes_30 rfl rfl ?_
    exact z_iret dX1_comes_31 rfl hf
  · have hf := hf.2 hc
    refine z_aload_n (q := 9) (i := 0) (x := a0) dX1_comes_8 rfl rfl rfl ?_
    obtain ⟨g_4, hf⟩ := hf
    refine z_get 0 6 (q := 12) (v := .ref (a0 + 23)) rfl (z_lt rfl) (z_L0_T g_4) q512 dX1_comes_9 rfl (z_fvR (fun _ _ _ => rfl) (z_L0_P6 g_4)) ?_
    refine z_getN 9 22 (q := 15) (v := .int (h_3.I (a0 + 23) 22)) rfl (z_lt rfl) (z_L9_T (z_L0_N6 g_4)) (z_nwm q424 rfl) dX1_comes_12 rfl rfl ?_
    refine z_bipush (q := 17) (v := 12) dX1_comes_15 (by decide) rfl ?_
    refine z_aload_n (q := 18) (i := 0) (x := a0) dX1_comes_17 rfl rfl rfl ?_
    refine z_get 0 6 (q := 21) (v := .ref (a0 + 23)) rfl (z_lt rfl) (z_L0_T g_4) q512 dX1_comes_18 rfl (z_fvR (fun _ _ _ => rfl) (z_L0_P6 g_4)) ?_
    refine z_getN 9 21 (q := 24) (v := .int (h_3.I (a0 + 23) 21)) rfl (z_lt rfl) (z_L9_T (z_L0_N6 g_4)) (z_nwm q422 rfl) dX1_comes_21 rfl rfl ?_
    refine z_cSi m_J5_min [.int 12, .int (h_3.I (a0 + 23) 21)] (q := 27) (rc2 := 0) (rs2 := 0) (st := [.int (h_3.I (a0 + 23) 22)]) dX1_comes_24 rfl q1548 oS_J5_min rfl rfl ⟨z_le rfl, z_le rfl⟩ (z_le rfl) rfl  rfl hf (fun x_5 h_6 hf => ?_)
    refine z_icmp_ne (q := 30) (tgt := 32) dX1_comes_27 rfl rfl (fun hc => ?_) (fun hc => ?_)
    · have hf := hf.2 hc
      refine z_aload_n (q := 33) (i := 0) (x := a0) dX1_comes_32 rfl rfl rfl ?_
      obtain ⟨g_7, hf⟩ := hf
      refine z_get 0 6 (q := 36) (v := .ref (a0 + 23)) rfl (z_lt rfl) (z_L0_T g_7) q512 dX1_comes_33 rfl (z_fvR (fun _ _ _ => rfl) (z_L0_P6 g_7)) ?_
      refine z_getN 9 20 (q := 39) (v := .ref (a0 + 35)) rfl (z_lt rfl) (z_L9_T (z_L0_N6 g_7)) (z_nwm q420 rfl) dX1_comes_36 rfl (z_fvR (fun _ _ _ => rfl) (z_L9_P20 (z_L0_N6 g_7))) ?_
      refine z_aload_n (q := 40) (i := 0) (x := a0) dX1_comes_39 rfl rfl rfl ?_
      refine z_get 0 6 (q := 43) (v := .ref (a0 + 23)) rfl (z_lt rfl) (z_L0_T g_7) q512 dX1_comes_40 rfl (z_fvR (fun _ _ _ => rfl) (z_L0_P6 g_7)) ?_
      refine z_dup (q := 44) dX1_comes_43 rfl rfl ?_
      refine z_getN 9 22 (q := 47) (v := .int (h_6.I (a0 + 23) 22)) rfl (z_lt rfl) (z_L9_T (z_L0_N6 g_7)) (z_nwm q424 rfl) dX1_comes_44 rfl rfl ?_
      refine z_dup_x1 (q := 48) dX1_comes_47 rfl rfl rfl ?_
      refine z_iconst (q := 49) (v := 1) dX1_comes_48 rfl rfl ?_
      refine z_iadd (q := 50) dX1_comes_49 rfl ?_
      refine z_putIN 9 22 (q := 53) (x := ((h_6.I (a0 + 23) 22) + 1)) (v := .int ((h_6.I (a0 + 23) 22) + 1)) rfl (z_lt rfl) (z_L9_T (z_L0_N6 g_7)) (z_nwm q424 rfl) rfl dX1_comes_50 rfl rfl rfl rfl (fun _ _ _ => rfl) ?_
      refine z_iload_n (q := 54) (i := 1) (x := x1) dX1_comes_53 rfl rfl rfl ?_
      obtain ⟨g_8, hf⟩ := hf
      refine z_iast (q := 55) (n := 12) (z_L9_A20 (z_L0_N6 g_7)) g_8 dX1_comes_54 rfl ?_
      refine z_aload_n (q := 56) (i := 0) (x := a0) dX1_comes_55 rfl rfl rfl ?_
      refine z_get 0 6 (q := 59) (v := .ref (a0 + 23)) rfl (z_lt rfl) (z_L0_T g_7) q512 dX1_comes_56 rfl (z_fvR (fun _ _ _ => rfl) (z_L0_P6 g_7)) ?_
      refine z_getN 9 22 (q := 62) (v := .int ((h_6.I (a0 + 23) 22) + 1)) rfl (z_lt rfl) (z_L9_T (z_L0_N6 g_7)) (z_nwm q424 rfl) dX1_comes_59 rfl (congrArg Value.int (Eq.trans (z_rIa (by omega)) z_rIs)) ?_
      exact z_iret dX1_comes_62 rfl hf
    · have hf := hf.1 hc
      refine z_iconst (q := 31) (v := (-1)) dX1_comes_30 rfl rfl ?_
      exact z_iret dX1_comes_31 rfl hf

theorem u_X1_copies {l : Launch} {G : z_G} {a0 : Nat} {a1 : Nat} {h : z_H} {Q : z_Q} (hst : l.stackTraces = false)  (hf : z_V l G m_X1_copies (z_Fm G m_X1_copies Q) 0 0 h 2 [some (.ref a0), some (.ref a1), some (.int 0)] []) : z_Ct l G m_X1_copies [.ref a0, .ref a1] h Q := by
  refine z_Ct.of (ls := [some (.ref a0), some (.ref a1), none]) hst rfl (by show plainName yX1_copies.cls = true; decide +kernel) (z_le rfl) rfl ?_
  show z_V l G m_X1_copies (z_Fm G m_X1_copies Q) 0 0 h 0 [some (.ref a0), some (.ref a1), none] []
  refine z_iconst (q := 1) (v := 0) dX1_copies_0 rfl rfl ?_
  refine z_istore_n (q := 2) (i := 2) (ls2 := [some (.ref a0), some (.ref a1), some (.int 0)]) (x := 0) dX1_copies_1 rfl (z_lt rfl) rfl rfl ?_
  exact hf

theorem b_X1_copies_2 {l : Launch} {G : z_G} {a0 : Nat} {a1 : Nat} {x2 : Int32} {h : z_H} {Q : z_Q}  (hf : ∃ n_1, h.T a1 = (1, n_1) ∧ ((Int32.ofNat n_1) ≤ x2 → Q none h) ∧ (¬ (Int32.ofNat n_1) ≤ x2 → ∃ n_3, h.T a0 = (1, n_3) ∧ vp_in x2 n_3 ∧ vp_in x2 n_1 ∧ z_V l G m_X1_copies (z_Fm G m_X1_copies Q) 0 0 (h.sI a1 (Int32.toNatClampNeg x2) (h.I a0 (Int32.toNatClampNeg x2))) 2 [some (.ref a0), some (.ref a1), some (.int (x2 + 1))] [])) : z_V l G m_X1_copies (z_Fm G m_X1_copies Q) 0 0 h 2 [some (.ref a0), some (.ref a1), some (.int x2)] [] := by
  refine z_iload_n (q := 3) (i := 2) (x := x2) dX1_copies_2 rfl rfl rfl ?_
  refine z_aload_n (q := 4) (i := 1) (x := a1) dX1_copies_3 rfl rfl rfl ?_
  obtain ⟨n_1, g_2, hf⟩ := hf
  refine z_alen (q := 5) (v := (Int32.ofNat n_1)) (n := n_1) g_2 (by decide) rfl dX1_copies_4 rfl ?_
  refine z_icmp_ge (q := 8) (tgt := 20) dX1_copies_5 rfl rfl (fun hc => ?_) (fun hc => ?_)
  · have hf := hf.1 hc
    exact z_vret dX1_copies_20 rfl hf
  · have hf := hf.2 hc
    refine z_aload_n (q := 9) (i := 1) (x := a1) dX1_copies_8 rfl rfl rfl ?_
    refine z_iload_n (q := 10) (i := 2) (x := x2) dX1_copies_9 rfl rfl rfl ?_
    refine z_aload_n (q := 11) (i := 0) (x := a0) dX1_copies_10 rfl rfl rfl ?_
    refine z_iload_n (q := 12) (i := 2) (x := x2) dX1_copies_11 rfl rfl rfl ?_
    obtain ⟨n_3, g_4, hf⟩ := hf
    obtain ⟨g_5, hf⟩ := hf
    refine z_iald (q := 13) (n := n_3) g_4 g_5 dX1_copies_12 rfl ?_
    obtain ⟨g_6, hf⟩ := hf
    refine z_iast (q := 14) (n := n_1) g_2 g_6 dX1_copies_13 rfl ?_
    refine z_iinc (q := 17) (i := 2) (x := x2) (v := (x2 + 1)) (ls2 := [some (.ref a0), some (.ref a1), some (.int (x2 + 1))]) dX1_copies_14 rfl rfl (z_lt rfl) rfl rfl ?_
    refine z_goto (q := 2) dX1_copies_17 rfl ?_
    exact hf

theorem u_X1_count {l : Launch} {G : z_G} {a0 : Nat} {x1 : Int32} {h : z_H} {Q : z_Q} (hst : l.stackTraces = false)  (hf : (x1 = 0 → z_L0 h a0 ∧ z_Ct l G m_X1_kinds [.ref a0] h (z_Qi (fun x_2 h_3 => Q (some (.int x_2)) h_3))) ∧ (x1 = 1 → z_L0 h a0 ∧ ∃ b_5, (h.P a0 4) = some b_5 ∧ z_L8 h b_5 ∧ z_Ct l G m_X10_cards [.ref b_5] h (z_Qi (fun x_8 h_9 => Q (some (.int x_8)) h_9))) ∧ (x1 = 2 → z_L0 h a0 ∧ Q (some (.int (h.I (a0 + 23) 6))) h) ∧ (x1 = 3 → z_L0 h a0 ∧ Q (some (.int (h.I (a0 + 23) 7))) h) ∧ (x1 = 4 → z_L0 h a0 ∧ Q (some (.int (h.I (a0 + 23) 8))) h) ∧ (x1 = 5 → z_L0 h a0 ∧ Q (some (.int (h.I (a0 + 23) 11))) h) ∧ (x1 = 6 → z_L0 h a0 ∧ Q (some (.int (h.I (a0 + 23) 9))) h) ∧ (x1 = 7 → z_L0 h a0 ∧ Q (some (.int (h.I (a0 + 23) 10))) h) ∧ (x1 = 8 → z_L0 h a0 ∧ Q (some (.int (h.I (a0 + 23) 13))) h) ∧ (x1 = 9 → z_L0 h a0 ∧ Q (some (.int (h.I (a0 + 23) 14))) h) ∧ (x1 = 10 → z_L0 h a0 ∧ Q (some (.int (h.I (a0 + 23) 12))) h) ∧ (x1 = 11 → z_L0 h a0 ∧ Q (some (.int (h.I (a0 + 23) 23))) h) ∧ (x1 = 12 → z_L0 h a0 ∧ z_Ct l G m_J2_size [.ref (a0 + 32)] h (z_Qi (fun x_21 h_22 => Q (some (.int x_21)) h_22))) ∧ (x1 = 13 → z_L0 h a0 ∧ ∃ b_24, (h.P a0 5) = some b_24 ∧ (h.T b_24).1 = 31 ∧ z_Ct l G m_J2_size [.ref b_24] h (z_Qi (fun x_27 h_28 => Q (some (.int x_27)) h_28))) ∧ (x1 = 14 → z_L0 h a0 ∧ Q (some (.int (h.I (a0 + 23) 22))) h) ∧ (x1 = 15 → z_L0 h a0 ∧ Q (some (.int (h.I a0 14))) h) ∧ (x1 = 16 → z_L0 h a0 ∧ ∃ b_32, (h.P a0 4) = some b_32 ∧ z_L8 h b_32 ∧ z_Ct l G m_X10_limit [.ref b_32] h (z_Qi (fun x_35 h_36 => Q (some (.int x_35)) h_36))) ∧ (x1 = 17 → z_L0 h a0 ∧ ∃ b_38, (h.P a0 4) = some b_38 ∧ z_L8 h b_38 ∧ z_Ct l G m_X10_order [.ref b_38] h (z_Qi (fun x_41 h_42 => Q (some (.int x_41)) h_42))) ∧ (x1 = 18 → z_L0 h a0 ∧ Q (some (.int (h.I a0 11))) h) ∧ (¬ x1 = 0 ∧ ¬ x1 = 1 ∧ ¬ x1 = 2 ∧ ¬ x1 = 3 ∧ ¬ x1 = 4 ∧ ¬ x1 = 5 ∧ ¬ x1 = 6 ∧ ¬ x1 = 7 ∧ ¬ x1 = 8 ∧ ¬ x1 = 9 ∧ ¬ x1 = 10 ∧ ¬ x1 = 11 ∧ ¬ x1 = 12 ∧ ¬ x1 = 13 ∧ ¬ x1 = 14 ∧ ¬ x1 = 15 ∧ ¬ x1 = 16 ∧ ¬ x1 = 17 ∧ ¬ x1 = 18 → Q (some (.int (-1))) h)) : z_Ct l G m_X1_count [.ref a0, .int x1] h Q := by
  refine z_Ct.of (ls := [some (.ref a0), some (.int x1)]) hst rfl (by show plainName yX1_count.cls = true; decide +kernel) (z_le rfl) rfl ?_
  show z_V l G m_X1_count (z_Fm G m_X1_count Q) 0 0 h 0 [some (.ref a0), some (.int x1)] []
  refine z_iload_n (q := 1) (i := 1) (x := x1) dX1_count_0 rfl rfl rfl ?_
  rcases Decidable.em (x1 = 0) with hc | hc0
  · have hf := hf.1 hc
    refine z_tableIn (q := 92) dX1_count_1 (by rw [hc]; decide) (by rw [hc]; decide) (by rw [hc]; try rfl) rfl ?_
    refine z_aload_n (q := 93) (i := 0) (x := a0) dX1_count_92 rfl rfl rfl ?_
    obtain ⟨g_1, hf⟩ := hf
    refine z_cVi m_X1_kinds [] (a0) (q := 96) (rc2 := 0) (rs2 := 0) (st := []) dX1_count_93 rfl q1254 oV_X1_kinds rfl rfl ⟨z_le rfl, z_le rfl⟩ (z_le rfl) (z_rcv_of 0 rfl (z_L0_T g_1) rfl) rfl  rfl hf (fun x_2 h_3 hf => ?_)
    exact z_iret dX1_count_96 rfl hf
  rcases Decidable.em (x1 = 1) with hc | hc1
  · have hf := hf.2.1 hc
    refine z_tableIn (q := 97) dX1_count_1 (by rw [hc]; decide) (by rw [hc]; decide) (by rw [hc]; try rfl) rfl ?_
    refine z_aload_n (q := 98) (i := 0) (x := a0) dX1_count_97 rfl rfl rfl ?_
    obtain ⟨g_4, hf⟩ := hf
    obtain ⟨b_5, g_6, hf⟩ := hf
    refine z_get 0 4 (q := 101) (v := .ref b_5) rfl (z_lt rfl) (z_L0_T g_4) q510 dX1_count_98 rfl (z_fvR (fun _ _ _ => rfl) g_6) ?_
    obtain ⟨g_7, hf⟩ := hf
    refine z_cVi m_X10_cards [] (b_5) (q := 104) (rc2 := 0) (rs2 := 0) (st := []) dX1_count_101 rfl q1621 oV_X10_cards rfl rfl ⟨z_le rfl, z_le rfl⟩ (z_le rfl) (z_rcv_of 8 rfl (z_L8_T g_7) rfl) rfl  rfl hf (fun x_8 h_9 hf => ?_)
    exact z_iret dX1_count_104 rfl hf
  rcases Decidable.em (x1 = 2) with hc | hc2
  · have hf := hf.2.2.1 hc
    refine z_tableIn (q := 105) dX1_count_1 (by rw [hc]; decide) (by rw [hc]; decide) (by rw [hc]; try rfl) rfl ?_
    refine z_aload_n (q := 106) (i := 0) (x := a0) dX1_count_105 rfl rfl rfl ?_
    obtain ⟨g_10, hf⟩ := hf
    refine z_get 0 6 (q := 109) (v := .ref (a0 + 23)) rfl (z_lt rfl) (z_L0_T g_10) q512 dX1_count_106 rfl (z_fvR (fun _ _ _ => rfl) (z_L0_P6 g_10)) ?_
    refine z_getN 9 6 (q := 112) (v := .int (h.I (a0 + 23) 6)) rfl (z_lt rfl) (z_L9_T (z_L0_N6 g_10)) (z_nwm q387 rfl) dX1_count_109 rfl rfl ?_
    exact z_iret dX1_count_112 rfl hf
  rcases Decidable.em (x1 = 3) with hc | hc3
  · have hf := hf.2.2.2.1 hc
    refine z_tableIn (q := 113) dX1_count_1 (by rw [hc]; decide) (by rw [hc]; decide) (by rw [hc]; try rfl) rfl ?_
    refine z_aload_n (q := 114) (i := 0) (x := a0) dX1_count_113 rfl rfl rfl ?_
    obtain ⟨g_11, hf⟩ := hf
    refine z_get 0 6 (q := 117) (v := .ref (a0 + 23)) rfl (z_lt rfl) (z_L0_T g_11) q512 dX1_count_114 rfl (z_fvR (fun _ _ _ => rfl) (z_L0_P6 g_11)) ?_
    refine z_getN 9 7 (q := 120) (v := .int (h.I (a0 + 23) 7)) rfl (z_lt rfl) (z_L9_T (z_L0_N6 g_11)) (z_nwm q390 rfl) dX1_count_117 rfl rfl ?_
    exact z_iret dX1_count_120 rfl hf
  rcases Decidable.em (x1 = 4) with hc | hc4
  · have hf := hf.2.2.2.2.1 hc
    refine z_tableIn (q := 121) dX1_count_1 (by rw [hc]; decide) (by rw [hc]; decide) (by rw [hc]; try rfl) rfl ?_
    refine z_aload_n (q := 122) (i := 0) (x := a0) dX1_count_121 rfl rfl rfl ?_
    obtain ⟨g_12, hf⟩ := hf
    refine z_get 0 6 (q := 125) (v := .ref (a0 + 23)) rfl (z_lt rfl) (z_L0_T g_12) q512 dX1_count_122 rfl (z_fvR (fun _ _ _ => rfl) (z_L0_P6 g_12)) ?_
    refine z_getN 9 8 (q := 128) (v := .int (h.I (a0 + 23) 8)) rfl (z_lt rfl) (z_L9_T (z_L0_N6 g_12)) (z_nwm q392 rfl) dX1_count_125 rfl rfl ?_
    exact z_iret dX1_count_128 rfl hf
  rcases Decidable.em (x1 = 5) with hc | hc5
  · have hf := hf.2.2.2.2.2.1 hc
    refine z_tableIn (q := 129) dX1_count_1 (by rw [hc]; decide) (by rw [hc]; decide) (by rw [hc]; try rfl) rfl ?_
    refine z_aload_n (q := 130) (i := 0) (x := a0) dX1_count_129 rfl rfl rfl ?_
    obtain ⟨g_13, hf⟩ := hf
    refine z_get 0 6 (q := 133) (v := .ref (a0 + 23)) rfl (z_lt rfl) (z_L0_T g_13) q512 dX1_count_130 rfl (z_fvR (fun _ _ _ => rfl) (z_L0_P6 g_13)) ?_
    refine z_getN 9 11 (q := 136) (v := .int (h.I (a0 + 23) 11)) rfl (z_lt rfl) (z_L9_T (z_L0_N6 g_13)) (z_nwm q399 rfl) dX1_count_133 rfl rfl ?_
    exact z_iret dX1_count_136 rfl hf
  rcases Decidable.em (x1 = 6) with hc | hc6
  · have hf := hf.2.2.2.2.2.2.1 hc
    refine z_tableIn (q := 137) dX1_count_1 (by rw [hc]; decide) (by rw [hc]; decide) (by rw [hc]; try rfl) rfl ?_
    refine z_aload_n (q := 138) (i := 0) (x := a0) dX1_count_137 rfl rfl rfl ?_
    obtain ⟨g_14, hf⟩ := hf
    refine z_get 0 6 (q := 141) (v := .ref (a0 + 23)) rfl (z_lt rfl) (z_L0_T g_14) q512 dX1_count_138 rfl (z_fvR (fun _ _ _ => rfl) (z_L0_P6 g_14)) ?_
    refine z_getN 9 9 (q := 144) (v := .int (h.I (a0 + 23) 9)) rfl (z_lt rfl) (z_L9_T (z_L0_N6 g_14)) (z_nwm q394 rfl) dX1_count_141 rfl rfl ?_
    exact z_iret dX1_count_144 rfl hf
  rcases Decidable.em (x1 = 7) with hc | hc7
  · have hf := hf.2.2.2.2.2.2.2.1 hc
    refine z_tableIn (q := 145) dX1_count_1 (by rw [hc]; decide) (by rw [hc]; decide) (by rw [hc]; try rfl) rfl ?_
    refine z_aload_n (q := 146) (i := 0) (x := a0) dX1_count_145 rfl rfl rfl ?_
    obtain ⟨g_15, hf⟩ := hf
    refine z_get 0 6 (q := 149) (v := .ref (a0 + 23)) rfl (z_lt rfl) (z_L0_T g_15) q512 dX1_count_146 rfl (z_fvR (fun _ _ _ => rfl) (z_L0_P6 g_15)) ?_
    refine z_getN 9 10 (q := 152) (v := .int (h.I (a0 + 23) 10)) rfl (z_lt rfl) (z_L9_T (z_L0_N6 g_15)) (z_nwm q396 rfl) dX1_count_149 rfl rfl ?_
    exact z_iret dX1_count_152 rfl hf
  rcases Decidable.em (x1 = 8) with hc | hc8
  · have hf := hf.2.2.2.2.2.2.2.2.1 hc
    refine z_tableIn (q := 153) dX1_count_1 (by rw [hc]; decide) (by rw [hc]; decide) (by rw [hc]; try rfl) rfl ?_
    refine z_aload_n (q := 154) (i := 0) (x := a0) dX1_count_153 rfl rfl rfl ?_
    obtain ⟨g_16, hf⟩ := hf
    refine z_get 0 6 (q := 157) (v := .ref (a0 + 23)) rfl (z_lt rfl) (z_L0_T g_16) q512 dX1_count_154 rfl (z_fvR (fun _ _ _ => rfl) (z_L0_P6 g_16)) ?_
    refine z_getN 9 13 (q := 160) (v := .int (h.I (a0 + 23) 13)) rfl (z_lt rfl) (z_L9_T (z_L0_N6 g_16)) (z_nwm q405 rfl) dX1_count_157 rfl rfl ?_
    exact z_iret dX1_count_160 rfl hf
  rcases Decidable.em (x1 = 9) with hc | hc9
  · have hf := hf.2.2.2.2.2.2.2.2.2.1 hc
    refine z_tableIn (q := 161) dX1_count_1 (by rw [hc]; decide) (by rw [hc]; decide) (by rw [hc]; try rfl) rfl ?_
    refine z_aload_n (q := 162) (i := 0) (x := a0) dX1_count_161 rfl rfl rfl ?_
    obtain ⟨g_17, hf⟩ := hf
    refine z_get 0 6 (q := 165) (v := .ref (a0 + 23)) rfl (z_lt rfl) (z_L0_T g_17) q512 dX1_count_162 rfl (z_fvR (fun _ _ _ => rfl) (z_L0_P6 g_17)) ?_
    refine z_getN 9 14 (q := 168) (v := .int (h.I (a0 + 23) 14)) rfl (z_lt rfl) (z_L9_T (z_L0_N6 g_17)) (z_nwm q408 rfl) dX1_count_165 rfl rfl ?_
    exact z_iret dX1_count_168 rfl hf
  rcases Decidable.em (x1 = 10) with hc | hc10
  · have hf := hf.2.2.2.2.2.2.2.2.2.2.1 hc
    refine z_tableIn (q := 169) dX1_count_1 (by rw [hc]; decide) (by rw [hc]; decide) (by rw [hc]; try rfl) rfl ?_
    refine z_aload_n (q := 170) (i := 0) (x := a0) dX1_count_169 rfl rfl rfl ?_
    obtain ⟨g_18, hf⟩ := hf
    refine z_get 0 6 (q := 173) (v := .ref (a0 + 23)) rfl (z_lt rfl) (z_L0_T g_18) q512 dX1_count_170 rfl (z_fvR (fun _ _ _ => rfl) (z_L0_P6 g_18)) ?_
    refine z_getN 9 12 (q := 176) (v := .int (h.I (a0 + 23) 12)) rfl (z_lt rfl) (z_L9_T (z_L0_N6 g_18)) (z_nwm q402 rfl) dX1_count_173 rfl rfl ?_
    exact z_iret dX1_count_176 rfl hf
  rcases Decidable.em (x1 = 11) with hc | hc11
  · have hf := hf.2.2.2.2.2.2.2.2.2.2.2.1 hc
    refine z_tableIn (q := 177) dX1_count_1 (by rw [hc]; decide) (by rw [hc]; decide) (by rw [hc]; try rfl) rfl ?_
    refine z_aload_n (q := 178) (i := 0) (x := a0) dX1_count_177 rfl rfl rfl ?_
    obtain ⟨g_19, hf⟩ := hf
    refine z_get 0 6 (q := 181) (v := .ref (a0 + 23)) rfl (z_lt rfl) (z_L0_T g_19) q512 dX1_count_178 rfl (z_fvR (fun _ _ _ => rfl) (z_L0_P6 g_19)) ?_
    refine z_getN 9 23 (q := 184) (v := .int (h.I (a0 + 23) 23)) rfl (z_lt rfl) (z_L9_T (z_L0_N6 g_19)) (z_nwm q426 rfl) dX1_count_181 rfl rfl ?_
    exact z_iret dX1_count_184 rfl hf
  rcases Decidable.em (x1 = 12) with hc | hc12
  · have hf := hf.2.2.2.2.2.2.2.2.2.2.2.2.1 hc
    refine z_tableIn (q := 185) dX1_count_1 (by rw [hc]; decide) (by rw [hc]; decide) (by rw [hc]; try rfl) rfl ?_
    refine z_aload_n (q := 186) (i := 0) (x := a0) dX1_count_185 rfl rfl rfl ?_
    obtain ⟨g_20, hf⟩ := hf
    refine z_get 0 6 (q := 189) (v := .ref (a0 + 23)) rfl (z_lt rfl) (z_L0_T g_20) q512 dX1_count_186 rfl (z_fvR (fun _ _ _ => rfl) (z_L0_P6 g_20)) ?_
    refine z_getN 9 18 (q := 192) (v := .ref (a0 + 32)) rfl (z_lt rfl) (z_L9_T (z_L0_N6 g_20)) (z_nwm q416 rfl) dX1_count_189 rfl (z_fvR (fun _ _ _ => rfl) (z_L9_P18 (z_L0_N6 g_20))) ?_
    refine z_cVi m_J2_size [] ((a0 + 32)) (q := 195) (rc2 := 0) (rs2 := 0) (st := []) dX1_count_192 rfl q1258 oV_J2_size rfl rfl ⟨z_le rfl, z_le rfl⟩ (z_le rfl) (z_rcv_of 21 rfl (z_L9_N18 (z_L0_N6 g_20)) rfl) rfl  rfl hf (fun x_21 h_22 hf => ?_)
    exact z_iret dX1_count_195 rfl hf
  rcases Decidable.em (x1 = 13) with hc | hc13
  · have hf := hf.2.2.2.2.2.2.2.2.2.2.2.2.2.1 hc
    refine z_tableIn (q := 196) dX1_count_1 (by rw [hc]; decide) (by rw [hc]; decide) (by rw [hc]; try rfl) rfl ?_
    refine z_aload_n (q := 197) (i := 0) (x := a0) dX1_count_196 rfl rfl rfl ?_
    obtain ⟨g_23, hf⟩ := hf
    obtain ⟨b_24, g_25, hf⟩ := hf
    refine z_get 0 5 (q := 200) (v := .ref b_24) rfl (z_lt rfl) (z_L0_T g_23) q511 dX1_count_197 rfl (z_fvR (fun _ _ _ => rfl) g_25) ?_
    obtain ⟨g_26, hf⟩ := hf
    refine z_cVi m_J2_size [] (b_24) (q := 203) (rc2 := 0) (rs2 := 0) (st := []) dX1_count_200 rfl q1258 oV_J2_size rfl rfl ⟨z_le rfl, z_le rfl⟩ (z_le rfl) (z_rcv_of 21 rfl g_26 rfl) rfl  rfl hf (fun x_27 h_28 hf => ?_)
    exact z_iret dX1_count_203 rfl hf
  rcases Decidable.em (x1 = 14) with hc | hc14
  · have hf := hf.2.2.2.2.2.2.2.2.2.2.2.2.2.2.1 hc
    refine z_tableIn (q := 204) dX1_count_1 (by rw [hc]; decide) (by rw [hc]; decide) (by rw [hc]; try rfl) rfl ?_
    refine z_aload_n (q := 205) (i := 0) (x := a0) dX1_count_204 rfl rfl rfl ?_
    obtain ⟨g_29, hf⟩ := hf
    refine z_get 0 6 (q := 208) (v := .ref (a0 + 23)) rfl (z_lt rfl) (z_L0_T g_29) q512 dX1_count_205 rfl (z_fvR (fun _ _ _ => rfl) (z_L0_P6 g_29)) ?_
    refine z_getN 9 22 (q := 211) (v := .int (h.I (a0 + 23) 22)) rfl (z_lt rfl) (z_L9_T (z_L0_N6 g_29)) (z_nwm q424 rfl) dX1_count_208 rfl rfl ?_
    exact z_iret dX1_count_211 rfl hf
  rcases Decidable.em (x1 = 15) with hc | hc15
  · have hf := hf.2.2.2.2.2.2.2.2.2.2.2.2.2.2.2.1 hc
    refine z_tableIn (q := 212) dX1_count_1 (by rw [hc]; decide) (by rw [hc]; decide) (by rw [hc]; try rfl) rfl ?_
    refine z_aload_n (q := 213) (i := 0) (x := a0) dX1_count_212 rfl rfl rfl ?_
    obtain ⟨g_30, hf⟩ := hf
    refine z_get 0 14 (q := 216) (v := .int (h.I a0 14)) rfl (z_lt rfl) (z_L0_T g_30) q520 dX1_count_213 rfl rfl ?_
    exact z_iret dX1_count_216 rfl hf
  rcases Decidable.em (x1 = 16) with hc | hc16
  · have hf := hf.2.2.2.2.2.2.2.2.2.2.2.2.2.2.2.2.1 hc
    refine z_tableIn (q := 217) dX1_count_1 (by rw [hc]; decide) (by rw [hc]; decide) (by rw [hc]; try rfl) rfl ?_
    refine z_aload_n (q := 218) (i := 0) (x := a0) dX1_count_217 rfl rfl rfl ?_
    obtain ⟨g_31, hf⟩ := hf
    obtain ⟨b_32, g_33, hf⟩ := hf
    refine z_get 0 4 (q := 221) (v := .ref b_32) rfl (z_lt rfl) (z_L0_T g_31) q510 dX1_count_218 rfl (z_fvR (fun _ _ _ => rfl) g_33) ?_
    obtain ⟨g_34, hf⟩ := hf
    refine z_cVi m_X10_limit [] (b_32) (q := 224) (rc2 := 0) (rs2 := 0) (st := []) dX1_count_221 rfl q1415 oV_X10_limit rfl rfl ⟨z_le rfl, z_le rfl⟩ (z_le rfl) (z_rcv_of 8 rfl (z_L8_T g_34) rfl) rfl  rfl hf (fun x_35 h_36 hf => ?_)
    exact z_iret dX1_count_224 rfl hf
  rcases Decidable.em (x1 = 17) with hc | hc17
  · have hf := hf.2.2.2.2.2.2.2.2.2.2.2.2.2.2.2.2.2.1 hc
    refine z_tableIn (q := 225) dX1_count_1 (by rw [hc]; decide) (by rw [hc]; decide) (by rw [hc]; try rfl) rfl ?_
    refine z_aload_n (q := 226) (i := 0) (x := a0) dX1_count_225 rfl rfl rfl ?_
    obtain ⟨g_37, hf⟩ := hf
    obtain ⟨b_38, g_39, hf⟩ := hf
    refine z_get 0 4 (q := 229) (v := .ref b_38) rfl (z_lt rfl) (z_L0_T g_37) q510 dX1_count_226 rfl (z_fvR (fun _ _ _ => rfl) g_39) ?_
    obtain ⟨g_40, hf⟩ := hf
    refine z_cVi m_X10_order [] (b_38) (q := 232) (rc2 := 0) (rs2 := 0) (st := []) dX1_count_229 rfl q1364 oV_X10_order rfl rfl ⟨z_le rfl, z_le rfl⟩ (z_le rfl) (z_rcv_of 8 rfl (z_L8_T g_40) rfl) rfl  rfl hf (fun x_41 h_42 hf => ?_)
    exact z_iret dX1_count_232 rfl hf
  rcases Decidable.em (x1 = 18) with hc | hc18
  · have hf := hf.2.2.2.2.2.2.2.2.2.2.2.2.2.2.2.2.2.2.1 hc
    refine z_tableIn (q := 233) dX1_count_1 (by rw [hc]; decide) (by rw [hc]; decide) (by rw [hc]; try rfl) rfl ?_
    refine z_aload_n (q := 234) (i := 0) (x := a0) dX1_count_233 rfl rfl rfl ?_
    obtain ⟨g_43, hf⟩ := hf
    refine z_get 0 11 (q := 237) (v := .int (h.I a0 11)) rfl (z_lt rfl) (z_L0_T g_43) q517 dX1_count_234 rfl rfl ?_
    exact z_iret dX1_count_237 rfl hf
  have hf := hf.2.2.2.2.2.2.2.2.2.2.2.2.2.2.2.2.2.2.2 ⟨hc0, hc1, hc2, hc3, hc4, hc5, hc6, hc7, hc8, hc9, hc10, hc11, hc12, hc13, hc14, hc15, hc16, hc17, hc18⟩
  refine z_tableOut (q := 238) dX1_count_1 (z_tout 19 (by decide) (fun j hj => ?_)) rfl ?_
  · match j, hj with
    | 0, _ => exact fun z => lv_neT hc0 (a := ((0 : Nat) : Int)) (by decide) z
    | 1, _ => exact fun z => lv_neT hc1 (a := ((1 : Nat) : Int)) (by decide) z
    | 2, _ => exact fun z => lv_neT hc2 (a := ((2 : Nat) : Int)) (by decide) z
    | 3, _ => exact fun z => lv_neT hc3 (a := ((3 : Nat) : Int)) (by decide) z
    | 4, _ => exact fun z => lv_neT hc4 (a := ((4 : Nat) : Int)) (by decide) z
    | 5, _ => exact fun z => lv_neT hc5 (a := ((5 : Nat) : Int)) (by decide) z
    | 6, _ => exact fun z => lv_neT hc6 (a := ((6 : Nat) : Int)) (by decide) z
    | 7, _ => exact fun z => lv_neT hc7 (a := ((7 : Nat) : Int)) (by decide) z
    | 8, _ => exact fun z => lv_neT hc8 (a := ((8 : Nat) : Int)) (by decide) z
    | 9, _ => exact fun z => lv_neT hc9 (a := ((9 : Nat) : Int)) (by decide) z
    | 10, _ => exact fun z => lv_neT hc10 (a := ((10 : Nat) : Int)) (by decide) z
    | 11, _ => exact fun z => lv_neT hc11 (a := ((11 : Nat) : Int)) (by decide) z
    | 12, _ => exact fun z => lv_neT hc12 (a := ((12 : Nat) : Int)) (by decide) z
    | 13, _ => exact fun z => lv_neT hc13 (a := ((13 : Nat) : Int)) (by decide) z
    | 14, _ => exact fun z => lv_neT hc14 (a := ((14 : Nat) : Int)) (by decide) z
    | 15, _ => exact fun z => lv_neT hc15 (a := ((15 : Nat) : Int)) (by decide) z
    | 16, _ => exact fun z => lv_neT hc16 (a := ((16 : Nat) : Int)) (by decide) z
    | 17, _ => exact fun z => lv_neT hc17 (a := ((17 : Nat) : Int)) (by decide) z
    | 18, _ => exact fun z => lv_neT hc18 (a := ((18 : Nat) : Int)) (by decide) z
    | j + 19, hj => exact absurd hj (by omega)
  · skip
    refine z_iconst (q := 239) (v := (-1)) dX1_count_238 rfl rfl ?_
    exact z_iret dX1_count_239 rfl hf

theorem u_X1_deal {l : Launch} {G : z_G} {mc ms : Nat} {a0 : Nat} {h : z_H} {Q : z_Q} (hst : l.stackTraces = false)  (hf : z_L0 h a0 ∧ z_Ct l G m_X1_reads [.ref a0] h (z_Qv (fun h_2 => z_L0 h_2 a0 ∧ ∃ b_4, (h_2.P a0 4) = some b_4 ∧ ∃ mc_6, ∃ ms_7, ∃ rc_8, mc = rc_8 + mc_6 ∧ ∃ rs_10, ms = rs_10 + ms_7 ∧ z_Cz l G (m_X2_deal mc_6 ms_7) [.ref (a0 + 2), .ref b_4] h_2 (z_Qr (fun b_12 h_13 => ∃ n_14, h_13.T b_12 = (9, n_14) ∧ vp_in 0 n_14 ∧ ∃ b_17, (h_13.P b_12 (Int32.toNatClampNeg 0)) = some b_17 ∧ z_L0 h_13 a0 ∧ z_Ct l G m_X1_deals [.ref b_17, .ref (a0 + 49)] h_13 (z_Qv (fun h_20 => ∃ n_21, h_20.T b_12 = (9, n_21) ∧ vp_in 1 n_21 ∧ ∃ b_24, (h_20.P b_12 (Int32.toNatClampNeg 1)) = some b_24 ∧ z_L0 h_20 a0 ∧ z_Ct l G m_X1_deals [.ref b_24, .ref (a0 + 51)] h_20 (z_Qv (fun h_27 => z_L0 h_27 a0 ∧ z_Ct l G m_X1_begins [.ref a0] (h_27.sI a0 12 1) (z_Qv (fun h_29 => Q (some (.int 0)) h_29)))))))) (fun C0 b_30 h_31 => C0 = "BeggarHeaps$Wrong" ∧ (h_31.T b_30).1 = 22 ∧ Q (some (.int (h_31.I b_30 6))) h_31)))) : z_CtW l G (m_X1_deal mc ms) ([((4 : Nat), (36 : Nat), (39 : Nat), (139 : Nat))]) [.ref a0] h Q := by
  refine z_CtW.of (ls := [some (.ref a0), none]) hst rfl (by show plainName yX1_deal.cls = true; decide +kernel) (z_le rfl) rfl ?_
  show z_V l G (m_X1_deal mc ms) (z_Fm G (m_X1_deal mc ms) Q) mc ms h 0 [some (.ref a0), none] []
  refine z_aload_n (q := 1) (i := 0) (x := a0) dX1_deal_0 rfl rfl rfl ?_
  obtain ⟨g_1, hf⟩ := hf
  refine z_cVv m_X1_reads [] (a0) (q := 4) (rc2 := mc) (rs2 := ms) (st := []) dX1_deal_1 rfl q585 oV_X1_reads rfl rfl ⟨z_le rfl, z_le rfl⟩ (z_le rfl) (z_rcv_of 0 rfl (z_L0_T g_1) rfl) rfl  rfl hf (fun h_2 hf => ?_)
  refine z_aload_n (q := 5) (i := 0) (x := a0) dX1_deal_4 rfl rfl rfl ?_
  obtain ⟨g_3, hf⟩ := hf
  refine z_get 0 1 (q := 8) (v := .ref (a0 + 2)) rfl (z_lt rfl) (z_L0_T g_3) q505 dX1_deal_5 rfl (z_fvR (fun _ _ _ => rfl) (z_L0_P1 g_3)) ?_
  refine z_aload_n (q := 9) (i := 0) (x := a0) dX1_deal_8 rfl rfl rfl ?_
  obtain ⟨b_4, g_5, hf⟩ := hf
  refine z_get 0 4 (q := 12) (v := .ref b_4) rfl (z_lt rfl) (z_L0_T g_3) q510 dX1_deal_9 rfl (z_fvR (fun _ _ _ => rfl) g_5) ?_
  obtain ⟨mc_6, hf⟩ := hf
  obtain ⟨ms_7, hf⟩ := hf
  obtain ⟨rc_8, g_9, hf⟩ := hf
  obtain ⟨rs_10, g_11, hf⟩ := hf
  refine z_cXr (m_X2_deal mc_6 ms_7) [.ref b_4] ((a0 + 2)) (q := 15) (rc2 := rc_8) (rs2 := rs_10) (st := []) dX1_deal_12 rfl q1192 (oV_X2_deal _ _) rfl rfl ⟨z_le rfl, z_le rfl⟩ (z_le rfl) (z_rcv_of 1 rfl (z_L0_N1 g_3) rfl) g_9  g_11 hf (fun C0 b_30 h_31 hX => ?_) (fun b_12 h_13 hf => ?_)
  · obtain ⟨rfl, hf⟩ := hX
    refine z_catch (name := "BeggarHeaps$Wrong") rfl (z_le rfl) (z_lt rfl) (by decide) q584 (Or.inl rfl) (z_nwm q733 rfl) ?_
    refine z_astore_n (q := 40) (i := 1) (ls2 := [some (.ref a0), some (.ref b_30)]) (x := b_30) dX1_deal_39 rfl (z_lt rfl) rfl rfl ?_
    refine z_aload_n (q := 41) (i := 1) (x := b_30) dX1_deal_40 rfl rfl rfl ?_
    obtain ⟨g_32, hf⟩ := hf
    refine z_getN 12 6 (q := 44) (v := .int (h_31.I b_30 6)) rfl (z_lt rfl) g_32 (z_nwm q784 rfl) dX1_deal_41 rfl rfl ?_
    exact z_iret dX1_deal_44 rfl hf
  · skip
    refine z_astore_n (q := 16) (i := 1) (ls2 := [some (.ref a0), some (.ref b_12)]) (x := b_12) dX1_deal_15 rfl (z_lt rfl) rfl rfl ?_
    refine z_aload_n (q := 17) (i := 1) (x := b_12) dX1_deal_16 rfl rfl rfl ?_
    refine z_iconst (q := 18) (v := 0) dX1_deal_17 rfl rfl ?_
    obtain ⟨n_14, g_15, hf⟩ := hf
    obtain ⟨g_16, hf⟩ := hf
    obtain ⟨b_17, g_18, hf⟩ := hf
    refine z_aald (q := 19) (n := n_14) (v := .ref b_17) g_15 (by decide) g_16 dX1_deal_18 rfl (z_rfR g_18) ?_
    refine z_aload_n (q := 20) (i := 0) (x := a0) dX1_deal_19 rfl rfl rfl ?_
    obtain ⟨g_19, hf⟩ := hf
    refine z_get 0 8 (q := 23) (v := .ref (a0 + 49)) rfl (z_lt rfl) (z_L0_T g_19) q514 dX1_deal_20 rfl (z_fvR (fun _ _ _ => rfl) (z_L0_P8 g_19)) ?_
    refine z_cSv m_X1_deals [.ref b_17, .ref (a0 + 49)] (q := 26) (rc2 := rc_8) (rs2 := rs_10) (st := []) dX1_deal_23 rfl q1204 oS_X1_deals rfl rfl ⟨z_le rfl, z_le rfl⟩ (z_le rfl) rfl  rfl hf (fun h_20 hf => ?_)
    refine z_aload_n (q := 27) (i := 1) (x := b_12) dX1_deal_26 rfl rfl rfl ?_
    refine z_iconst (q := 28) (v := 1) dX1_deal_27 rfl rfl ?_
    obtain ⟨n_21, g_22, hf⟩ := hf
    obtain ⟨g_23, hf⟩ := hf
    obtain ⟨b_24, g_25, hf⟩ := hf
    refine z_aald (q := 29) (n := n_21) (v := .ref b_24) g_22 (by decide) g_23 dX1_deal_28 rfl (z_rfR g_25) ?_
    refine z_aload_n (q := 30) (i := 0) (x := a0) dX1_deal_29 rfl rfl rfl ?_
    obtain ⟨g_26, hf⟩ := hf
    refine z_get 0 9 (q := 33) (v := .ref (a0 + 51)) rfl (z_lt rfl) (z_L0_T g_26) q515 dX1_deal_30 rfl (z_fvR (fun _ _ _ => rfl) (z_L0_P9 g_26)) ?_
    refine z_cSv m_X1_deals [.ref b_24, .ref (a0 + 51)] (q := 36) (rc2 := rc_8) (rs2 := rs_10) (st := []) dX1_deal_33 rfl q1204 oS_X1_deals rfl rfl ⟨z_le rfl, z_le rfl⟩ (z_le rfl) rfl  rfl hf (fun h_27 hf => ?_)
    refine z_goto (q := 45) dX1_deal_36 rfl ?_
    refine z_aload_n (q := 46) (i := 0) (x := a0) dX1_deal_45 rfl rfl rfl ?_
    refine z_iconst (q := 47) (v := 1) dX1_deal_46 rfl rfl ?_
    obtain ⟨g_28, hf⟩ := hf
    refine z_putI 0 12 (q := 50) (x := 1) (v := .int 1) rfl (z_lt rfl) (z_L0_T g_28) q518 rfl dX1_deal_47 rfl rfl rfl rfl (fun _ _ _ => rfl) ?_
    refine z_aload_n (q := 51) (i := 0) (x := a0) dX1_deal_50 rfl rfl rfl ?_
    refine z_cVv m_X1_begins [] (a0) (q := 54) (rc2 := rc_8) (rs2 := rs_10) (st := []) dX1_deal_51 rfl q1176 oV_X1_begins rfl rfl ⟨z_le rfl, z_le rfl⟩ (z_le rfl) (z_rcv_of 0 rfl (z_L0_T g_28) rfl) rfl  rfl hf (fun h_29 hf => ?_)
    refine z_iconst (q := 55) (v := 0) dX1_deal_54 rfl rfl ?_
    exact z_iret dX1_deal_55 rfl hf

